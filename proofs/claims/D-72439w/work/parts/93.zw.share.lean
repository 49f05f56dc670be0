/-! PLAIN LAW, 93.zw: the share on both sides -/
theorem td_of {a g x : Int} (h : a = g * x) (hg : g ≠ 0) : a.tdiv g = x := by rw [h, Int.mul_tdiv_cancel_left _ hg]
theorem sh_co {p q : Rat} (hq : 0 < q.num) : ∃ x1 y1 x2 y2 : Int, p.num = (Int.gcd p.num q.num : Int) * x1 ∧ q.num = (Int.gcd p.num q.num : Int) * y1 ∧ (q.den : Int) = (Int.gcd p.den q.den : Int) * x2 ∧ (p.den : Int) = (Int.gcd p.den q.den : Int) * y2 ∧ 0 < y2 * y1 ∧ (Rat.divInt (x1 * x2) (y2 * y1)).num = x1 * x2 ∧ ((Rat.divInt (x1 * x2) (y2 * y1)).den : Int) = y2 * y1 ∧ x1.natAbs ≤ p.num.natAbs ∧ y1.natAbs ≤ q.num.natAbs ∧ x2.natAbs ≤ q.den ∧ y2.natAbs ≤ p.den := by
  have pd : 0 < p.den := Nat.pos_of_ne_zero p.den_nz
  have qd : 0 < q.den := Nat.pos_of_ne_zero q.den_nz
  have g1 : 0 < Int.gcd p.num q.num := Int.gcd_pos_of_ne_zero_right _ (by omega)
  have g2 : 0 < Int.gcd (p.den : Int) (q.den : Int) := Int.gcd_pos_of_ne_zero_right _ (by omega)
  obtain ⟨x1, h1⟩ : (Int.gcd p.num q.num : Int) ∣ p.num := Int.gcd_dvd_left ..
  obtain ⟨y1, h2⟩ : (Int.gcd p.num q.num : Int) ∣ q.num := Int.gcd_dvd_right ..
  obtain ⟨y2, h3⟩ : (Int.gcd (p.den : Int) (q.den : Int) : Int) ∣ (p.den : Int) := Int.gcd_dvd_left ..
  obtain ⟨x2, h4⟩ : (Int.gcd (p.den : Int) (q.den : Int) : Int) ∣ (q.den : Int) := Int.gcd_dvd_right ..
  have a1 : p.num.natAbs = Int.gcd p.num q.num * x1.natAbs := by
    conv => lhs; rw [h1]
    rw [Int.natAbs_mul, Int.natAbs_natCast]
  have a2 : q.num.natAbs = Int.gcd p.num q.num * y1.natAbs := by
    conv => lhs; rw [h2]
    rw [Int.natAbs_mul, Int.natAbs_natCast]
  have a3 : p.den = Int.gcd (p.den : Int) (q.den : Int) * y2.natAbs := by
    have : ((p.den : Int)).natAbs = Int.gcd (p.den : Int) (q.den : Int) * y2.natAbs := by
      conv => lhs; rw [h3]
      rw [Int.natAbs_mul, Int.natAbs_natCast]
    rw [Int.natAbs_natCast] at this; exact this
  have a4 : q.den = Int.gcd (p.den : Int) (q.den : Int) * x2.natAbs := by
    have : ((q.den : Int)).natAbs = Int.gcd (p.den : Int) (q.den : Int) * x2.natAbs := by
      conv => lhs; rw [h4]
      rw [Int.natAbs_mul, Int.natAbs_natCast]
    rw [Int.natAbs_natCast] at this; exact this
  have c12 : Nat.Coprime x1.natAbs y1.natAbs := by
    have e : Nat.gcd p.num.natAbs q.num.natAbs = Int.gcd p.num q.num := rfl
    rw [a1, a2, Nat.gcd_mul_left] at e
    have : Int.gcd p.num q.num * Nat.gcd x1.natAbs y1.natAbs = Int.gcd p.num q.num * 1 := by rw [e, Nat.mul_one]
    exact Nat.eq_of_mul_eq_mul_left g1 this
  have c34 : Nat.Coprime x2.natAbs y2.natAbs := by
    have e : Nat.gcd p.den q.den = Int.gcd (p.den : Int) (q.den : Int) := rfl
    have e2 : Nat.gcd (Int.gcd (p.den : Int) (q.den : Int) * y2.natAbs) (Int.gcd (p.den : Int) (q.den : Int) * x2.natAbs) = Int.gcd (p.den : Int) (q.den : Int) := by rw [← a3, ← a4]; exact e
    rw [Nat.gcd_mul_left] at e2
    have : Int.gcd (p.den : Int) (q.den : Int) * Nat.gcd y2.natAbs x2.natAbs = Int.gcd (p.den : Int) (q.den : Int) * 1 := by rw [e2, Nat.mul_one]
    exact Nat.Coprime.symm (Nat.eq_of_mul_eq_mul_left g2 this)
  have c14 : Nat.Coprime x1.natAbs y2.natAbs := Nat.Coprime.coprime_dvd_left ⟨_, by rw [a1, Nat.mul_comm]⟩ (Nat.Coprime.coprime_dvd_right (show y2.natAbs ∣ p.den from ⟨_, by rw [a3, Nat.mul_comm]⟩) p.reduced)
  have c32 : Nat.Coprime x2.natAbs y1.natAbs := Nat.Coprime.symm (Nat.Coprime.coprime_dvd_left ⟨_, by rw [a2, Nat.mul_comm]⟩ (Nat.Coprime.coprime_dvd_right (show x2.natAbs ∣ q.den from ⟨_, by rw [a4, Nat.mul_comm]⟩) q.reduced))
  have co : Nat.Coprime (x1 * x2).natAbs (y2 * y1).natAbs := by
    rw [Int.natAbs_mul, Int.natAbs_mul]
    exact Nat.Coprime.mul_left (Nat.Coprime.mul_right c14 c12) (Nat.Coprime.mul_right c34 c32)
  have pos : ∀ (G : Nat) (y : Int), 0 < G → 0 < (G : Int) * y → 0 < y := fun G y hG hy => by
    rcases Int.lt_trichotomy y 0 with c | c | c
    · have := Int.mul_neg_of_pos_of_neg (show (0 : Int) < G by omega) c; omega
    · subst c; omega
    · exact c
  have y10 := pos _ y1 g1 (by rw [← h2]; exact hq)
  have y20 := pos _ y2 g2 (by rw [← h3]; omega)
  have b0 : 0 < y2 * y1 := Int.mul_pos y20 y10
  have gg : Int.gcd (x1 * x2) (y2 * y1) = 1 := co
  have n1 := fr_num (a := x1 * x2) (b := y2 * y1) (by omega)
  have n2 := fr_den (a := x1 * x2) (b := y2 * y1) (by omega)
  rw [gg, if_pos (by omega)] at n1 n2
  have e1 : ((1 : Nat) : Int) * 1 = 1 := by decide
  rw [e1, Int.tdiv_one] at n1 n2
  refine ⟨x1, y1, x2, y2, h1, h2, h4, h3, b0, n1.symm, n2.symm, ?_, ?_, ?_, ?_⟩
  · rw [a1]; exact Nat.le_mul_of_pos_left _ g1
  · rw [a2]; exact Nat.le_mul_of_pos_left _ g1
  · conv => rhs; rw [a4]
    exact Nat.le_mul_of_pos_left _ g2
  · conv => rhs; rw [a3]
    exact Nat.le_mul_of_pos_left _ g2
/-- the share of p in q, in thousandths -/
def shQ (p q : Rat) : Rat := Rat.divInt ((p.num / (Int.gcd p.num q.num : Int)) * ((q.den : Int) / (Int.gcd p.den q.den : Int))) (((p.den : Int) / (Int.gcd p.den q.den : Int)) * (q.num / (Int.gcd p.num q.num : Int)))
def shV (r : Rat) : Int32 := FP.f2i (FP.fmul (FP.fdiv (FP.l2f (jI r.num)) (FP.l2f (jI r.den))) (1148846080 : UInt32))
section SH
variable {N x m : Nat} {ad : Nat → Nat} {md : Nat → Bool} {c s : Nat} {M0 M : Mem} {T : ST} {C : CX} {S : MS} {f : Nat → Int64}
theorem len3 (hW : jWf C) {ch : Nat} (hc : ch < 3) : ∀ i, i ≤ cE C → ∃ z : Int, fZ 6 (lenP C ch 3 i) z ∧ 0 ≤ z ∧ z ≤ i * 486 ∧ ((∃ e, e < i ∧ cCh C ch e ≠ 0) → 0 < z) := by
  intro i
  induction i with
  | zero =>
    intro _
    refine ⟨0, ?_, Int.le_refl 0, by omega, fun ⟨e, he, _⟩ => absurd he (Nat.not_lt_zero e)⟩
    show (0 : Rat) * _ = 0
    exact Rat.zero_mul _
  | succ i ih =>
    intro hi
    obtain ⟨z, h1, h2, h3, h4⟩ := ih (by omega)
    have hw := hW.2.2.2.1 i (by omega)
    have hx := hW.2.2.2.2.2 ch i hc (by omega)
    obtain ⟨w6, wa, wb⟩ := ptW_6 hW (show i < cE C by omega)
    have tz : fZ 6 (lenT C ch 3 i) (cCh C ch i * cCh C ch i * ptW C i) := by
      have n3 : (prtQ C ch 3 i).num = cCh C ch i := by unfold prtQ; rfl
      have d3 : ((prtQ C ch 3 i).den : Int) = 1 := by unfold prtQ; rfl
      unfold lenT
      rw [n3, d3, Int.one_mul]
      exact fZ_divInt (by omega) (by rw [w6])
    have sq0 : 0 ≤ cCh C ch i * cCh C ch i := by rw [← Int.natAbs_mul_self]; exact Int.natCast_nonneg _
    have sq1 : cCh C ch i * cCh C ch i ≤ 81 := by
      have : (cCh C ch i * cCh C ch i).natAbs ≤ 9 * 9 := by rw [Int.natAbs_mul]; exact Nat.mul_le_mul (by omega) (by omega)
      omega
    have t0 : 0 ≤ cCh C ch i * cCh C ch i * ptW C i := Int.mul_nonneg sq0 (by omega)
    have t1 : cCh C ch i * cCh C ch i * ptW C i ≤ 486 := by
      have : (cCh C ch i * cCh C ch i * ptW C i).natAbs ≤ 81 * 6 := by rw [Int.natAbs_mul]; exact Nat.mul_le_mul (by omega) (by omega)
      omega
    refine ⟨_, fZ_add h1 tz, by omega, by rw [Int.natCast_succ]; omega, fun ⟨e, he, hne⟩ => ?_⟩
    by_cases c1 : e = i
    · subst c1
      have : 0 < cCh C ch e * cCh C ch e := by
        rcases Int.lt_trichotomy (cCh C ch e) 0 with c | c | c
        · exact Int.mul_pos_of_neg_of_neg c c
        · exact absurd c hne
        · exact Int.mul_pos c c
      have := Int.mul_pos this (show 0 < ptW C e by omega)
      omega
    · have := h4 ⟨e, by omega, hne⟩
      omega
theorem len3_rg (hW : jWf C) {ch : Nat} (hc : ch < 3) (hx : ∃ e, e < cE C ∧ cCh C ch e ≠ 0) : 0 < (lenQ C ch 3).num ∧ (lenQ C ch 3).num.natAbs ≤ 2916 ∧ (lenQ C ch 3).den ≤ 6 := by
  have h6 := hW.2.1
  obtain ⟨z, h1, h2, h3, h4⟩ := len3 hW hc (cE C) (Nat.le_refl _)
  have z0 := h4 hx
  obtain ⟨r1, r2⟩ := fZ_rg (by decide) h1
  have e := fZ_eq (by decide) h1
  have dp : (0 : Int) < ((lenP C ch 3 (cE C)).den : Int) := by have := Nat.pos_of_ne_zero (lenP C ch 3 (cE C)).den_nz; omega
  have := Int.mul_pos z0 dp
  unfold lenQ
  refine ⟨by omega, by omega, by omega⟩
theorem lenQ_rg (hW : jWf C) {ch v : Nat} (hc : ch < 3) : (lenQ C ch v).num.natAbs ≤ 777600000000000000 ∧ (lenQ C ch v).den ≤ 53496602689536 := by
  have h6 := hW.2.1
  obtain ⟨l0, l1⟩ := ptL_rg hW
  obtain ⟨z, h1, h2⟩ := lenP_z hW (v := v) hc (cE C) (Nat.le_refl _)
  obtain ⟨r1, r2⟩ := fZ_rg (show 0 < ptL C * 6 by omega) h1
  have i6 : cE C * 129600000000000000 ≤ 6 * 129600000000000000 := Nat.mul_le_mul_right _ h6
  unfold lenQ
  refine ⟨by omega, by omega⟩
/-- what both sides divide -/
theorem sh_all {p q : Rat} (hq : 0 < q.num) (b1 : p.num.natAbs ≤ 777600000000000000) (b2 : p.den ≤ 53496602689536) (b3 : q.num.natAbs ≤ 2916) (b4 : q.den ≤ 6) : ∃ x1 y1 x2 y2 : Int, jI p.num / jI ((Int.gcd p.num q.num : Nat) : Int) = jI x1 ∧ jI q.num / jI ((Int.gcd p.num q.num : Nat) : Int) = jI y1 ∧ jI (q.den : Int) / jI ((Int.gcd p.den q.den : Nat) : Int) = jI x2 ∧ jI (p.den : Int) / jI ((Int.gcd p.den q.den : Nat) : Int) = jI y2 ∧ ¬ jI ((Int.gcd p.num q.num : Nat) : Int) = 0 ∧ ¬ jI ((Int.gcd p.den q.den : Nat) : Int) = 0 ∧ (x1 * x2).natAbs < 9223372036854775808 ∧ (y2 * y1).natAbs < 9223372036854775808 ∧ 0 < y2 * y1 ∧ Rat.divInt (x1 * x2) (y2 * y1) = shQ p q ∧ (shQ p q).num = x1 * x2 ∧ ((shQ p q).den : Int) = y2 * y1 := by
  obtain ⟨x1, y1, x2, y2, h1, h2, h3, h4, h5, h6, h7, m1, m2, m3, m4⟩ := sh_co (p := p) hq
  have pd : 0 < p.den := Nat.pos_of_ne_zero p.den_nz
  have qd : 0 < q.den := Nat.pos_of_ne_zero q.den_nz
  obtain ⟨g1, g2⟩ := gcd_rg (a := p.num) (b := q.num) (by omega) (by omega)
  obtain ⟨g3, g4⟩ := gcd_rg (a := (p.den : Int)) (b := (q.den : Int)) (by omega) (by omega)
  have e1 : p.num / (Int.gcd p.num q.num : Int) = x1 := by
    conv => lhs; arg 1; rw [h1]
    exact Int.mul_ediv_cancel_left _ (by omega)
  have e2 : q.num / (Int.gcd p.num q.num : Int) = y1 := by
    conv => lhs; arg 1; rw [h2]
    exact Int.mul_ediv_cancel_left _ (by omega)
  have e3 : (q.den : Int) / (Int.gcd p.den q.den : Int) = x2 := by
    conv => lhs; arg 1; rw [h3]
    exact Int.mul_ediv_cancel_left _ (by omega)
  have e4 : (p.den : Int) / (Int.gcd p.den q.den : Int) = y2 := by
    conv => lhs; arg 1; rw [h4]
    exact Int.mul_ediv_cancel_left _ (by omega)
  have es : Rat.divInt (x1 * x2) (y2 * y1) = shQ p q := by
    unfold shQ
    rw [e1, e2, e3, e4]
  rw [es] at h6 h7
  refine ⟨x1, y1, x2, y2, ?_, ?_, ?_, ?_, fun y => ?_, fun y => ?_, ?_, ?_, h5, es, h6, h7⟩
  · rw [jI_tdv (by omega) (by omega), td_of h1 (by omega)]
  · rw [jI_tdv (by omega) (by omega), td_of h2 (by omega)]
  · rw [jI_tdv (by omega) (by omega), td_of h3 (by omega)]
  · rw [jI_tdv (by omega) (by omega), td_of h4 (by omega)]
  · have := (jI_0 (by omega)).mp y; omega
  · have := (jI_0 (by omega)).mp y; omega
  · rw [Int.natAbs_mul]
    have := Nat.mul_le_mul (Nat.le_trans m1 b1) (Nat.le_trans m3 b4)
    omega
  · rw [Int.natAbs_mul]
    have := Nat.mul_le_mul (Nat.le_trans m4 b2) (Nat.le_trans m2 b3)
    omega
theorem jx_by {p q : Rat} {a b : Nat} (hM : ∀ a, md a = true → a < M0.1) (hE : jExt md c s M0 M) (hq : 0 < q.num) (b1 : p.num.natAbs ≤ 777600000000000000) (b2 : p.den ≤ 53496602689536) (b3 : q.num.natAbs ≤ 2916) (b4 : q.den ≤ 6) (hN : 9223372036854775808 < N) (ha : jMk md M.2.2 a = some (jFr p)) (hb : jMk md M.2.2 b = some (jFr q)) : jo (jf_X12_by N a (some b)) M (jNew md (c + 1) (s + 2) M0 M (fun n H => H n = some (jFr (shQ p q)))) := by
  obtain ⟨x1, y1, x2, y2, e1, e2, e3, e4, z1, z2, r1, r2, r3, r4, -⟩ := sh_all hq b1 b2 b3 b4
  have pd : 0 < p.den := Nat.pos_of_ne_zero p.den_nz
  have qd : 0 < q.den := Nat.pos_of_ne_zero q.den_nz
  unfold jf_X12_by
  refine jo_fJ (mkg ha).2 (by decide) rfl (jo_fJ (mkg hb).2 (by decide) rfl (jo_eq (jx_common (a := p.num) (b := q.num) (by omega) (by omega) hN) ?_))
  refine jo_fJ (mkg ha).2 (by decide) rfl (jo_fJ (mkg hb).2 (by decide) rfl (jo_eq (jx_common (a := (p.den : Int)) (b := (q.den : Int)) (by omega) (by omega) hN) (jo_f z1 ?_)))
  refine jX_al (hE.md hM) hE fun n M1 hn _ d1 E1 => ?_
  have s1 : jSub (jMk md M.2.2) (jMk md M1.2.2) := by rw [d1]; exact jSub.new hn
  have A := (mkg (s1 _ _ ha)).2
  have B := (mkg (s1 _ _ hb)).2
  refine jo_fJ A (by decide) rfl (jo_ck z1 (jo_fJ B (by decide) rfl (jo_ck z2 (jo_fJ A (by decide) rfl (jo_ck z2 (jo_fJ B (by decide) rfl (jo_ck z1 ?_)))))))
  rw [e1, e2, e3, e4, jI_mul, jI_mul]
  refine jX_in12 (by rw [d1, va_up_self]) r1 r2 (by omega) hN E1 (fun M2 d2 E2 => jo_ret ⟨n, rfl, ?_, E2, ?_⟩)
  · rw [d2, d1, va_up2]; exact jSub.new hn
  · show jMk md M2.2.2 n = _
    rw [d2, va_up_self, r4]
noncomputable def aShare (C : CX) (a v : Int32) : Int32 := if ¬ 0 < cP C then -1000002 else if ¬ (0 ≤ a.toInt ∧ a.toInt ≤ 2) then -1000001 else if ¬ (0 ≤ v.toInt ∧ v.toInt ≤ 2) then -1000001 else if cOth C (tn a) = 0 then -1000002 else shV (shQ (lenQ C (tn a) (tn v)) (lenQ C (tn a) 3))
theorem oth_0 (hW : jWf C) {ch : Nat} : (iI (cOth C ch) = 0 ↔ cOth C ch = 0) ∧ (¬ cOth C ch = 0 → ∃ e, e < cE C ∧ cCh C ch e ≠ 0) := by
  have h6 := hW.2.1
  have := jsum_le (n := cE C) (f := fun e => if cCh C ch e = 0 then (0 : Int) else 1) (a := 1) (fun e _ => by split <;> omega)
  refine ⟨?_, fun h => Classical.byContradiction fun y => h (ds_0 fun e he => ?_)⟩
  · unfold cOth
    show iI _ = iI 0 ↔ _
    constructor
    · intro h
      have := congrArg Int32.toInt h
      rwa [iI_toInt (by omega) (by omega), iI_toInt (by omega) (by omega)] at this
    · intro h; rw [h]
  · rw [if_pos (Classical.byContradiction fun z => y ⟨e, he, z⟩)]
theorem sh_ck {r : Rat} {a b : Int} (h1 : r.num = a) (h2 : (r.den : Int) = b) (hb : 0 < b) (hr : b.natAbs < 9223372036854775808) : (FP.fdiv (FP.l2f (jI a)) (FP.l2f (jI b))) &&& 0x7fffffff ≤ 0x7f800000 ∧ (FP.fmul (FP.fdiv (FP.l2f (jI a)) (FP.l2f (jI b))) (1148846080 : UInt32)) &&& 0x7fffffff ≤ 0x7f800000 :=
  fp_share (by rw [jI_toInt (by omega) (by omega)]; omega) (by rw [jI_toInt (by omega) (by omega)]; omega)
theorem jx_shareOp (h : jRX x T (jMk md M.2.2)) (hM : ∀ a, md a = true → a < M0.1) (hE : jExt md c s M0 M) (hW : jWfS T) (hS : jSmP (sC T)) (hN : 1180591620717411303424 < N) {a v : Int32} : jo (jf_X0_share N x a v) M (fun r M' => r = aShare (sC T) a v ∧ jRX x T (jMk md M'.2.2) ∧ jExt md (c + 1200) (s + 5500) M0 M') := by
  have hR := h
  have hE' := hE.mono (show c ≤ c + 1200 by omega) (show s ≤ s + 5500 by omega)
  have hw := hW.1
  have h6 := hw.2.1
  obtain ⟨its, tp, pa, im, tf, pf, mf, h⟩ := h
  unfold jf_X0_share
  refine jo_fQ (r := its) (mkg h.ob).2 (by decide) rfl ?_
  have hcx := h.cx
  cases its with
  | none =>
    have z : cP (sC T) = 0 := hcx.1
    refine jo_t rfl (jo_ret ⟨?_, hR, hE'⟩)
    unfold aShare
    rw [if_pos (by omega)]
  | some q =>
    obtain ⟨hp, hq⟩ : 0 < cP (sC T) ∧ jCx q (sC T) (jMk md M.2.2) := hcx
    obtain ⟨va, ha⟩ := hq.ob
    refine jo_ne (jo_eq jx_isChain (jo_bI (fun c1 => jo_ret ⟨?_, hR, hE'⟩) (fun c1 => jo_eq (in32X (a := 0) (b := 2) rfl rfl) (jo_bI (fun c2 => jo_ret ⟨?_, hR, hE'⟩) (fun c2 => ?_)))))
    · unfold aShare
      rw [if_neg (fun y => y hp), if_pos c1]
    · unfold aShare
      rw [if_neg (fun y => y hp), if_neg (fun y => y c1), if_pos c2]
    · obtain ⟨a', a1, rfl, a3⟩ := n_of (n := 2) c1.1 c1.2 (by decide)
      obtain ⟨v', v1, rfl, v3⟩ := n_of (n := 2) c2.1 c2.2 (by decide)
      have ev : aShare (sC T) (nI a') (nI v') = if cOth (sC T) a' = 0 then -1000002 else shV (shQ (lenQ (sC T) a' v') (lenQ (sC T) a' 3)) := by
        unfold aShare
        rw [if_neg (fun y => y hp), if_neg (fun y => y c1), if_neg (fun y => y c2), tn_nI (by omega), tn_nI (by omega)]
      rw [ev]
      obtain ⟨eA, fA, cA, w1, w2, w3, cr, w4, w5⟩ := id hq
      obtain ⟨ca, cg, u1, u2, u3⟩ := w5 a' (by omega)
      refine jo_fR (mkg h.ob).2 (by decide) rfl (jo_fR (mkg w1).2 (by decide) rfl (jo_ldR (mkg w4).2 rfl (by omega) (by decide) ?_))
      rw [u1]
      refine jo_eq (jx_others (mkg u2).2 u3 (fun e he => hw.2.2.2.2.2 a' e (by omega) he) h6 (by omega)) ?_
      have o := oth_0 hw (ch := a')
      by_cases c3 : cOth (sC T) a' = 0
      · refine jo_t (o.1.mpr c3) (jo_ret ⟨?_, hR, hE'⟩)
        rw [if_pos c3]
      · obtain ⟨l1, l2, l3⟩ := len3_rg hw (ch := a') (by omega) (o.2 c3)
        obtain ⟨l4, l5⟩ := lenQ_rg hw (ch := a') (v := v') (by omega)
        refine jo_f (fun y => c3 (o.1.mp y)) (jo_fR (mkg h.ob).2 (by decide) rfl (jo_cl (mkg ha).2 (jo_bd (jo_mono (jx_length hM hE hq hw (show v' < 4 by omega) (show a' < 3 by omega) hS hN) ?_))))
        rintro r M1 ⟨q1, rfl, s1, E1, h1⟩
        refine jo_fR (mkg (s1 _ _ h.ob)).2 (by decide) rfl (jo_cl (mkg (s1 _ _ ha)).2 (jo_bd (jo_mono (jx_length (v := 3) hM E1 (hq.kp s1.kp) hw (by decide) (show a' < 3 by omega) hS hN) ?_)))
        rintro r M2 ⟨q2, rfl, s2, E2, h2⟩
        refine jo_cl (mkg (s2 _ _ h1)).2 (jo_bd (jo_mono (jx_by hM E2 l1 l4 l5 l2 l3 (by omega) (s2 _ _ h1) h2) ?_))
        rintro r M3 ⟨q3, rfl, s3, E3, h3⟩
        obtain ⟨x1, y1, x2, y2, e1, e2, e3, e4, z1, z2, r1, r2, r3, r4, r5, r6⟩ := sh_all l1 l4 l5 l2 l3
        obtain ⟨k1, k2⟩ := sh_ck (r := shQ (lenQ (sC T) a' v') (lenQ (sC T) a' 3)) rfl rfl (by rw [r6]; exact r3) (by rw [r6]; exact r2)
        refine jo_cl (mkg h3).2 (jo_bd ?_)
        unfold jf_X12_thousandths
        refine jo_fJ (mkg h3).2 (by decide) rfl (jo_fJ (mkg h3).2 (by decide) rfl (jo_ck k1 (jo_ck k2 (jo_lt (jo_ret (jo_ret ⟨?_, hR.sub (s1.tr (s2.tr s3)), E3.mono (by omega) (by omega)⟩))))))
        rw [if_neg c3]
        rfl
theorem jm_shareOp (h : jMM m ad M0 S M) (hT : jRM T S) (hW : jWfS T) (hN : 9223372036854775809 < N) {a v : Int32} : jo (jf_X1_share N m a v) M (fun r M' => r = aShare (sC T) a v ∧ ∃ S', jMM m ad M0 S' M' ∧ ∃ ks ls, sW ks ls S S') := by
  have hC := hT.1
  have hw := hW.1
  unfold jf_X1_share
  have sf : ∃ S', jMM m ad M0 S' M ∧ ∃ ks ls, sW ks ls S S' := ⟨S, h, [], [], sW.rf⟩
  refine jo_rd (jM_cl h) (jo_eq (jr_isComplex h hC hw) (jo_bI (fun c0 => jo_ret ⟨?_, sf⟩) (fun c0 => jo_eq (in32 (a := 0) (b := 2) rfl rfl) (jo_bI (fun c1 => jo_ret ⟨?_, sf⟩) (fun c1 => jo_eq (in32 (a := 0) (b := 2) rfl rfl) (jo_bI (fun c2 => jo_ret ⟨?_, sf⟩) (fun c2 => ?_)))))))
  · unfold aShare; rw [if_pos c0]
  · unfold aShare; rw [if_neg (fun y => y c0), if_pos c1]
  · unfold aShare; rw [if_neg (fun y => y c0), if_neg (fun y => y c1), if_pos c2]
  · obtain ⟨a', a1, rfl, a3⟩ := n_of (n := 2) c1.1 c1.2 (by decide)
    obtain ⟨v', v1, rfl, v3⟩ := n_of (n := 2) c2.1 c2.2 (by decide)
    have ev : aShare (sC T) (nI a') (nI v') = if cOth (sC T) a' = 0 then -1000002 else shV (shQ (lenQ (sC T) a' v') (lenQ (sC T) a' 3)) := by
      unfold aShare
      rw [if_neg (fun y => y c0), if_neg (fun y => y c1), if_neg (fun y => y c2), tn_nI (by omega), tn_nI (by omega)]
    rw [ev]
    refine jo_rd (jM_cl h) (jo_eq (jr_others h hC hw (by omega) (show a' < 3 by omega)) ?_)
    have o := oth_0 hw (ch := a')
    by_cases c3 : cOth (sC T) a' = 0
    · refine jo_t (o.1.mpr c3) (jo_ret ⟨?_, sf⟩)
      rw [if_pos c3]
    · obtain ⟨l1, l2, l3⟩ := len3_rg hw (ch := a') (by omega) (o.2 c3)
      obtain ⟨l4, l5⟩ := lenQ_rg hw (ch := a') (v := v') (by omega)
      obtain ⟨x1, y1, x2, y2, e1, e2, e3, e4, z1, z2, r1, r2, r3, r4, r5, r6⟩ := sh_all l1 l4 l5 l2 l3
      obtain ⟨k1, k2⟩ := sh_ck (r := shQ (lenQ (sC T) a' v') (lenQ (sC T) a' 3)) r5 r6 r3 r2
      refine jo_f (fun y => c3 (o.1.mp y)) (jo_rd (jM_cl h) (jo_bd (jo_mono (jm_measures (v := 3) h hC hw hN (by decide) (show a' < 3 by omega)) ?_)))
      rintro _ M1 ⟨S1, h1, w1, q1⟩
      have hC1 : jEnc (sC T) (S1.1 0) := by rw [w1.1]; exact hC
      refine jo_rd (jM_fJ h1 (k := 23) rfl) (jo_rd (jM_fJ h1 (k := 22) rfl) (jo_rd (jM_cl h1) (jo_bd (jo_mono (jm_measures h1 hC1 hw hN (show v' < 4 by omega) (show a' < 3 by omega)) ?_))))
      rintro _ M2 ⟨S2, h2, w2, q2⟩
      have pd : 0 < (lenQ (sC T) a' v').den := Nat.pos_of_ne_zero (lenQ (sC T) a' v').den_nz
      have qd : 0 < (lenQ (sC T) a' 3).den := Nat.pos_of_ne_zero (lenQ (sC T) a' 3).den_nz
      have f22 := jM_fJ h2 (k := 22) rfl
      have f23 := jM_fJ h2 (k := 23) rfl
      rw [q2.1] at f22
      rw [q2.2] at f23
      rw [q1.1, q1.2]
      refine jo_rd f22 (jo_eq (jr_gcd (a := (lenQ (sC T) a' v').num) (b := (lenQ (sC T) a' 3).num) (by omega) (by omega) (by omega)) (jo_rd f23 (jo_eq (jr_gcd (a := ((lenQ (sC T) a' 3).den : Int)) (b := ((lenQ (sC T) a' v').den : Int)) (by omega) (by omega) (by omega)) ?_)))
      rw [Int.gcd_comm ((lenQ (sC T) a' 3).den : Int)]
      refine jo_rd f22 (jo_ck z1 (jo_ck z2 (jo_ck z1 (jo_rd f23 (jo_ck z2 ?_)))))
      rw [e1, e2, e3, e4, jI_mul, jI_mul, Int.mul_comm y1]
      refine jo_ck k1 (jo_ck k2 (jo_lt (jo_ret ⟨?_, S2, h2, [15, 16, 18, 19, 20, 21], [17, 22, 23], w1.tr w2 (fun _ h => h) (fun _ h => h)⟩)))
      rw [if_neg c3]
      unfold shV
      rw [r5, r6]
theorem jb_share (hN : 1180591620717411303424 < N) (hS : ∀ C, jWf C → jSmP C) {a v : Int32} : jBoth x m ad 1200 5500 (jf_X0_share N x a v) (jf_X1_share N m a v) := jBoth_valW (fun T => aShare (sC T) a v) (fun _ _ h hM hE hW => jx_shareOp h hM hE hW (hS _ hW.1) hN) (fun _ _ _ h hT hW => jm_shareOp h hT hW (by omega))
end SH
