/-! PLAIN LAW, 93.w: the order of a chain: component -/
section WH
variable {β : Type} {Q : β → Mem → Prop} {N x m : Nat} {ad : Nat → Nat} {md : Nat → Bool} {c s : Nat} {M0 M : Mem} {T : ST} {C : CX} {S : MS} {f : Nat → Int64}
theorem jx_column (hM : ∀ a, md a = true → a < M0.1) (hE : jExt md c s M0 M) {a i : Nat} (h : jCx a C (jMk md M.2.2)) (hW : jWf C) (hi : i < 3) (hN : 100 < N) : jo (jf_X9_column N a (nI i)) M (fun r M' => ∃ q, r = some q ∧ jRow q (cE C) (cCh C i) (jMk md M'.2.2) ∧ jMk md M.2.2 q = none ∧ jSub (jMk md M.2.2) (jMk md M'.2.2) ∧ jExt md (c + 1) (s + 6) M0 M') := by
  have h6 := hW.2.1
  have hch := hW.2.2.2.2.2
  obtain ⟨eA, fA, cA, q1, ⟨er, q2, q2'⟩, q3, ⟨cr, q4, q5⟩⟩ := id h
  obtain ⟨ca, cg, c1, c2, c3⟩ := q5 i hi
  unfold jf_X9_column jf_X9_column_k10_34
  refine jo_fR (mkg q1).2 (by decide) rfl (jo_len (mkg q2).2 rfl (jo_ck (ckL (by omega)) ?_))
  rw [nI_tc (by omega)]
  refine jX_al (hE.md hM) hE fun q M1 hq _ e1 E1 => ?_
  have s1 : jSub (jMk md M.2.2) (jMk md M1.2.2) := by rw [e1]; exact jSub.new hq
  refine jo_bd (jo_mono (jo_up (cE C) (fun k z M' => z = nI k ∧ (∃ g, jMk md M'.2.2 q = some (aJ (cE C) g) ∧ ∀ y, y < k → g y = jI (cCh C i y)) ∧ jSub (jMk md M.2.2) (jMk md M'.2.2) ∧ jExt md (c + 1) (s + cE C) M0 M') (fun _ M' => jRow q (cE C) (cCh C i) (jMk md M'.2.2) ∧ jSub (jMk md M.2.2) (jMk md M'.2.2) ∧ jExt md (c + 1) (s + cE C) M0 M') ?_ ?_ N 0 _ M1 ⟨rfl, ⟨_, by rw [e1, va_up_self], fun y hy => by omega⟩, s1, E1⟩ (Nat.zero_le _) (by omega)) ?_)
  · rintro k z M2 hk ⟨rfl, ⟨g, g1, g2⟩, s2, E2⟩
    unfold jf_X9_column_L10
    refine jo_len (mkg g1).2 rfl (jo_f (by rw [nI_leI (by omega) (by omega)]; omega) ?_)
    refine jo_fR (mkg (s2 _ _ q1)).2 (by decide) rfl (jo_ldR (mkg (s2 _ _ q4)).2 rfl hi (by decide) ?_)
    rw [c1]
    refine jo_ldI (mkg (s2 _ _ c2)).2 rfl (show k < 6 by omega) (by decide) ?_
    rw [c3 k (by omega), if_pos hk]
    have := hch i k hi hk
    rw [iI_l (by omega) (by omega)]
    refine jX_wr (jl_st (mkg g1).2 (jm_ixn hk (by omega))) g1 E2 (fun M3 e3 E3 => jo_ret ⟨by rw [nI_1], ⟨_, by rw [e3, va_up_self], fun y hy => ?_⟩, by rw [e3]; exact s2.wr hq, E3⟩)
    unfold vp_updL
    by_cases yk : y = k
    · rw [if_pos yk, yk]
    · rw [if_neg yk]; exact g2 y (by omega)
  · rintro z M2 ⟨rfl, ⟨g, g1, g2⟩, s2, E2⟩
    unfold jf_X9_column_L10
    exact jo_len (mkg g1).2 rfl (jo_t (by rw [nI_leI (by omega) (by omega)]; omega) (jo_ret ⟨⟨g, g1, g2⟩, s2, E2⟩))
  · rintro _ M2 ⟨h2, s2, E2⟩
    exact jo_ret ⟨q, rfl, h2, hq, s2, E2.mono (by omega) (by omega)⟩
/-- a run with a column beside it stays small, the column too -/
def smallB (R K' : Nat) (A : Nat → Nat → Int) : Prop := ∀ F0 : Nat → Nat → Int, (∀ x y, x < R → y < K' + 1 → F0 x y = A x y) → smallD R K' F0 ∧ ∀ k F, rch R K' F0 k F → ∀ i, i < R → (F i K').natAbs < 9223372036854775808
/-- the column's part of the run: what the loop computes -/
def nO (G : Nat → Nat → Int) (K i : Nat) : Int := ((G i i).natAbs : Int) / ((Int.gcd ((G i i).natAbs : Int) (G i K) : Nat) : Int)
theorem lcm_step {k : Nat} {n : Nat → Int} {L g : Int} (h : ∀ y, L ∣ y ↔ ∀ j, j < k → n j ∣ y) (hL : 0 < L) (hn : 0 < n k) (hg : g = ((Int.gcd L (n k) : Nat) : Int)) : 0 < L / g * n k ∧ ∀ y, L / g * n k ∣ y ↔ ∀ j, j < k + 1 → n j ∣ y := by
  have gp : 0 < g := by
    have : 0 < Int.gcd L (n k) := Int.gcd_pos_of_ne_zero_left _ (by omega)
    omega
  have g1 : g ∣ L := by rw [hg]; exact Int.gcd_dvd_left ..
  have g2 : g ∣ n k := by rw [hg]; exact Int.gcd_dvd_right ..
  obtain ⟨u, hu⟩ := g1
  obtain ⟨v, hv⟩ := g2
  have e1 : L / g = u := by rw [hu]; exact Int.mul_ediv_cancel_left _ (by omega)
  have up : 0 < u := by
    rcases Int.lt_or_le 0 u with c | c
    · exact c
    · have : g * u ≤ 0 := Int.mul_nonpos_of_nonneg_of_nonpos (Int.le_of_lt gp) c
      omega
  obtain ⟨p, q, e⟩ := bezN (n k).natAbs L.natAbs
  have e2 : ((L.natAbs : Nat) : Int) = L := by omega
  have e3 : (((n k).natAbs : Nat) : Int) = n k := by omega
  have e4 : g = p * L + q * n k := by rw [hg]; rw [e2, e3] at e; exact e
  rw [e1]
  refine ⟨Int.mul_pos up hn, fun y => ⟨fun hy j hj => ?_, fun hy => ?_⟩⟩
  · by_cases jk : j = k
    · subst jk; exact Int.dvd_trans (Int.dvd_mul_left u _) hy
    · refine (h y).mp (Int.dvd_trans ⟨v, ?_⟩ hy) j (by omega)
      rw [hu, hv]; grind
  · obtain ⟨z, hz⟩ := (h y).mpr (fun j hj => hy j (by omega))
    obtain ⟨w, hw⟩ := hy k (by omega)
    refine ⟨p * w + q * z, Int.eq_of_mul_eq_mul_left (show g ≠ 0 by omega) ?_⟩
    have : g * (u * n k * (p * w + q * z)) = p * L * (n k * w) + q * n k * (L * z) := by rw [hu]; grind
    rw [this, ← hw, ← hz]
    rw [show g * y = (p * L + q * n k) * y by rw [← e4]]
    grind
theorem nO_pos {G : Nat → Nat → Int} {K i : Nat} (h : G i i ≠ 0) : 0 < nO G K i ∧ (0 : Int) < ((Int.gcd ((G i i).natAbs : Int) (G i K) : Nat) : Int) ∧ nO G K i * ((Int.gcd ((G i i).natAbs : Int) (G i K) : Nat) : Int) = ((G i i).natAbs : Int) := by
  unfold nO
  have gp : (0 : Int) < ((Int.gcd ((G i i).natAbs : Int) (G i K) : Nat) : Int) := by
    have : 0 < Int.gcd ((G i i).natAbs : Int) (G i K) := Int.gcd_pos_of_ne_zero_left _ (by omega)
    omega
  have g1 : ((Int.gcd ((G i i).natAbs : Int) (G i K) : Nat) : Int) ∣ ((G i i).natAbs : Int) := Int.gcd_dvd_left ..
  have e := Int.ediv_mul_cancel g1
  generalize ((Int.gcd ((G i i).natAbs : Int) (G i K) : Nat) : Int) = g at *
  have a0 : (0 : Int) < ((G i i).natAbs : Int) := by omega
  generalize ((G i i).natAbs : Int) = a at *
  refine ⟨?_, gp, e⟩
  rcases Int.lt_or_le 0 (a / g) with c | c
  · exact c
  · have : a / g * g ≤ 0 := Int.mul_nonpos_of_nonpos_of_nonneg c (Int.le_of_lt gp)
    omega
theorem jx_ordL {t ar R K k : Nat} {rr : Nat → Nat} {rf : Nat → Option Nat} {G : Nat → Nat → Int} (h : jTbA t ar R (K + 1) rr rf G M.2.2) (hR : R ≤ 50) (hK : K ≤ 50) (hN : 1180591620717411303424 < N) (k1 : k ≤ R) (k2 : k ≤ K) (hd : ∀ i, i < k → G i i ≠ 0 ∧ (G i i).natAbs < 9223372036854775808) (hw : ∀ i, i < R → (G i K).natAbs < 9223372036854775808) {P : Int} (hP : 0 < P ∧ P < 9223372036854775808) (hPn : ∀ j, j < k → nO G K j ∣ P) :
    jo (jm_it (fun z => jf_X9_order_L25 N (some t) (nI k) z.1 z.2) N ((1 : Int64), (0 : Int32))) M (fun y M' => M' = M ∧ (((∃ i, k ≤ i ∧ i < R ∧ G i K ≠ 0) ∧ y = .inl ()) ∨ ((∀ i, k ≤ i → i < R → G i K = 0) ∧ ∃ L, 0 < L ∧ L < 9223372036854775808 ∧ y = .inr (jI L) ∧ ∀ z, L ∣ z ↔ ∀ j, j < k → nO G K j ∣ z))) := by
  refine jo_mono (jo_up R (fun i z M' => M' = M ∧ ∃ L, 0 < L ∧ z = (jI L, nI i) ∧ (∀ z, L ∣ z ↔ ∀ j, j < i → j < k → nO G K j ∣ z) ∧ ∀ x, k ≤ x → x < i → G x K = 0) (fun y M' => M' = M ∧ (((∃ i, k ≤ i ∧ i < R ∧ G i K ≠ 0) ∧ y = .inl ()) ∨ ((∀ i, k ≤ i → i < R → G i K = 0) ∧ ∃ L, 0 < L ∧ L < 9223372036854775808 ∧ y = .inr (jI L) ∧ ∀ z, L ∣ z ↔ ∀ j, j < k → nO G K j ∣ z))) ?_ ?_ N 0 _ M ⟨rfl, 1, by decide, rfl, fun z => ⟨fun _ j hj => by omega, fun _ => Int.one_dvd z⟩, fun x _ hx => by omega⟩ (Nat.zero_le _) (by omega)) (fun _ _ g => g)
  · rintro i z M' hi ⟨rfl, L, L0, rfl, hL, hz⟩
    have LP : L ∣ P := (hL P).mpr (fun j _ hj => hPn j hj)
    have Lle : L ≤ P := Int.le_of_dvd hP.1 LP
    unfold jf_X9_order_L25
    refine jN_R h (jo_f (by rw [nI_leI (by omega) (by omega)]; omega) (jN_at h (jN_row h rfl hi (by omega) (jN_K h ?_))))
    refine jN_ld (j := K) h (nI_sub (a := K + 1) (b := 1) (by omega)) hi (show K < K + 1 by omega) (by omega) ?_
    have hwi := hw i hi
    by_cases c : i < k
    · obtain ⟨d1, d2⟩ := hd i c
      obtain ⟨n1, n2, n3⟩ := nO_pos (K := K) d1
      have n4 : nO G K i ≤ P := Int.le_of_dvd hP.1 (hPn i c)
      have hLk : ∀ y, L ∣ y ↔ ∀ j, j < i → nO G K j ∣ y := fun y => (hL y).trans ⟨fun g j hj => g j hj (by omega), fun g j hj _ => g j hj⟩
      obtain ⟨l1, l2⟩ := lcm_step hLk L0 n1 rfl
      have gle : ((Int.gcd ((G i i).natAbs : Int) (G i K) : Nat) : Int) ≤ ((G i i).natAbs : Int) := Int.le_of_dvd (by omega) (Int.gcd_dvd_left ..)
      have g2p : (0 : Int) < ((Int.gcd L (nO G K i) : Nat) : Int) := by
        have : 0 < Int.gcd L (nO G K i) := Int.gcd_pos_of_ne_zero_left _ (by omega)
        omega
      have g2le : ((Int.gcd L (nO G K i) : Nat) : Int) ≤ L := Int.le_of_dvd L0 (Int.gcd_dvd_left ..)
      refine jo_t (by rw [nI_ltI (by omega) (by omega)]; exact c) ?_
      unfold jf_X9_order_j66 jf_X9_order_j117
      refine jo_t (by rw [nI_ltI (by omega) (by omega)]; exact c) (jN_at h (jN_row h rfl hi (by omega) (jN_ld h rfl hi (show i < K + 1 by omega) (by omega) (jo_lt ?_))))
      rw [jI_abs d2]
      refine jo_eq (jx_common (a := ((G i i).natAbs : Int)) (b := G i K) (by omega) hwi (by omega)) (jo_ck (by rw [jI_0 (by omega)]; omega) ?_)
      have e1 : jI ((G i i).natAbs : Int) / jI ((Int.gcd ((G i i).natAbs : Int) (G i K) : Nat) : Int) = jI (nO G K i) := by
        rw [jI_tdv (by omega) (by omega), Int.tdiv_eq_ediv_of_nonneg (by omega)]; rfl
      rw [e1]
      refine jo_eq (jx_common (a := L) (b := nO G K i) (by omega) (by omega) (by omega)) (jo_ck (by rw [jI_0 (by omega)]; omega) ?_)
      rw [jI_tdv (by omega) (by omega), Int.tdiv_eq_ediv_of_nonneg (by omega), jI_mul, nI_1]
      refine jo_ret ⟨rfl, _, l1, rfl, fun y => (l2 y).trans ⟨fun g j hj _ => g j hj, fun g j hj => g j hj (by omega)⟩, fun x hx hx2 => by omega⟩
    · refine jo_f (by rw [nI_ltI (by omega) (by omega)]; exact c) ?_
      by_cases c2 : G i K = 0
      · refine jo_t (by rw [jI_0 (a := G i K) (by omega)]; exact c2) ?_
        unfold jf_X9_order_j66 jf_X9_order_j117
        refine jo_f (by rw [nI_ltI (by omega) (by omega)]; exact c) ?_
        rw [nI_1]
        refine jo_ret ⟨rfl, L, L0, rfl, fun y => (hL y).trans ⟨fun g j hj hk => g j (by omega) hk, fun g j hj hk => g j (by omega) hk⟩, fun x hx hx2 => ?_⟩
        by_cases xi : x = i
        · rw [xi]; exact c2
        · exact hz x hx (by omega)
      · refine jo_f (by rw [jI_0 (a := G i K) (by omega)]; exact c2) (jo_ret ⟨rfl, .inl ⟨⟨i, by omega, hi, c2⟩, rfl⟩⟩)
  · rintro z M' ⟨rfl, L, L0, rfl, hL, hz⟩
    have LP : L ∣ P := (hL P).mpr (fun j _ hj => hPn j hj)
    have Lle : L ≤ P := Int.le_of_dvd hP.1 LP
    unfold jf_X9_order_L25
    exact jN_R h (jo_t (by rw [nI_leI (by omega) (by omega)]; omega) (jo_ret ⟨rfl, .inr ⟨hz, L, L0, by omega, rfl, fun y => (hL y).trans ⟨fun g j hj => g j (by omega) hj, fun g j _ hj => g j hj⟩⟩⟩))
def tWc (C : CX) (i : Nat) : Nat → Nat → Int := andT (cTab C 2) (cCols C 2) (cCh C i)
/-- table 2 with a chain beside it stays small -/
def jSm3 (C : CX) : Prop := ∀ i, i < 3 → smallB (cRows C 2) (cCols C 2) (tWc C i)
/-- the order of a chain -/
noncomputable def cOrd (C : CX) (i : Nat) : Int32 :=
  if rkN (cRows C 2) (cCols C 2 + 1) (tWc C i) ≤ rkN (cRows C 2) (cCols C 2) (cTab C 2) then
    (jI (gN (rkN (cRows C 2) (cCols C 2) (cTab C 2)) (cRows C 2) (cCols C 2) (cTab C 2) / gN (rkN (cRows C 2) (cCols C 2) (cTab C 2)) (cRows C 2) (cCols C 2 + 1) (tWc C i))).toInt32
  else -1000000
theorem low_tab (hW : jWf C) : lowM (cRows C 2) (cCols C 2) (cTab C 2) := low6 (by have := cF4 hW; omega) (fun i j _ hj => cTab_rg hW hj)
theorem isRk_ex {R K : Nat} {A : Nat → Nat → Int} : ∃ r, isRk R K A r := by
  have key : ∀ n, (∀ k, n < k → dv k R K A 0) → ∃ r, isRk R K A r := by
    intro n
    induction n with
    | zero => exact fun h => ⟨0, Nat.zero_le _, Nat.zero_le _, dv_00, h⟩
    | succ n ih =>
      intro h
      by_cases c : dv (n + 1) R K A 0
      · exact ih (fun k hk => by
          by_cases kn : k = n + 1
          · rw [kn]; exact c
          · exact h k (by omega))
      · refine ⟨n + 1, Nat.le_of_not_lt fun y => c (dv_big (.inl y)), Nat.le_of_not_lt fun y => c (dv_big (.inr y)), c, h⟩
  exact key R (fun k hk => dv_big (.inl hk))
theorem gN_eq_rk {R K k : Nat} {A B : Nat → Nat → Int} (e : eqD R K A B) (h : ¬ dv k R K B 0) : k ≤ rkN R K A := by
  obtain ⟨r, hr⟩ := isRk_ex (R := R) (K := K) (A := A)
  rw [← rkN_eq hr]
  refine Nat.le_of_not_lt fun y => h ((e _ _).mp (hr.2.2.2 k y))
theorem bezI (d w : Int) : ∃ u v, ((Int.gcd (d.natAbs : Int) w : Nat) : Int) = u * d + v * w := by
  obtain ⟨u, v, e⟩ := bezN w.natAbs d.natAbs
  have e1 : (d.natAbs : Int) = d ∨ (d.natAbs : Int) = - d := by omega
  have e2 : (w.natAbs : Int) = w ∨ (w.natAbs : Int) = - w := by omega
  have e3 : ((Int.gcd (d.natAbs : Int) w : Nat) : Int) = ((Nat.gcd d.natAbs w.natAbs : Nat) : Int) := rfl
  rw [e3, e]
  rcases e1 with e1 | e1 <;> rcases e2 with e2 | e2 <;> rw [e1, e2]
  · exact ⟨u, v, rfl⟩
  · exact ⟨u, - v, by grind⟩
  · exact ⟨- u, v, by grind⟩
  · exact ⟨- u, - v, by grind⟩
theorem gAbs {R K k : Nat} {A : Nat → Nat → Int} {g : Int} (h : ∀ x, dv k R K A x ↔ x ∣ g) : gN k R K A = (g.natAbs : Int) := (gN_eq ⟨by omega, fun d => (h d).trans Int.dvd_natAbs.symm⟩).symm
theorem jx_order (hM : ∀ a, md a = true → a < M0.1) (hE : jExt md c s M0 M) {a i : Nat} (h : jCx a C (jMk md M.2.2)) (hW : jWf C) (hS : jSm3 C) (hi : i < 3) (hN : 1180591620717411303424 < N) : jo (jf_X9_order N a (nI i)) M (fun r M' => r = cOrd C i ∧ jSub (jMk md M.2.2) (jMk md M'.2.2) ∧ jExt md (c + 30) (s + 150) M0 M') := by
  have hr6 := cRows_le hW (d := 2)
  have h4 := cF4 hW
  have rk : cRows C 2 * (cCols C 2 + 1) ≤ 6 * 5 := Nat.mul_le_mul hr6 (by omega)
  have rE : cRows C 2 = cE C := rfl
  obtain ⟨va, ha⟩ := h.ob
  unfold jf_X9_order
  refine jo_cl (mkg ha).2 (jo_bd (jo_mono (jx_table9 (d := 2) hM hE h hW (.inr rfl) (by omega)) ?_))
  rintro r M1 ⟨t, rfl, s1, E1, ht⟩
  refine jo_cl (mkg (s1 _ _ ha)).2 (jo_bd (jo_mono (jx_column hM E1 (h.kp s1.kp) hW hi (by omega)) ?_))
  rintro r M2 ⟨q, rfl, h2, n2, s2, E2⟩
  obtain ⟨g, g1, g2⟩ := h2
  refine jT_cl ((ht.sub s2).sub jMk.sub) (jo_bd (jo_mono (jx_and (v := cCh C i) hM E2 (ht.sub s2) (by omega) (by omega) (by omega) (g := g) (by rw [rE]; exact g1) (fun y hy => g2 y (by omega))) ?_))
  rintro r M3 ⟨t2, ar, rr, rf, rfl, h3, E3⟩
  have ⟨sm1, sm2⟩ := hS i hi (tWc C i) (fun _ _ _ _ => rfl)
  refine jN_cl h3.md (jo_bd (jo_mono (jx_diag (by omega) (by omega) hN sm1 h3 E3) ?_))
  rintro r M4 ⟨k, G, rr3, rf3, rfl, k1, k2, k3, k4, h5, E5⟩
  have ⟨f1, f2⟩ := rch_end k3 k1 k2 k4
  have f4 : ∀ z x, dv z (cRows C 2) (cCols C 2) (cTab C 2) x ↔ dvP z k (fun i => G i i) x := fun z x => by
    rw [← f2 z x]
    exact ⟨dv_cg (fun i j hi hj => by unfold tWc andT; rw [if_pos hj]), dv_cg (fun i j hi hj => by unfold tWc andT; rw [if_pos hj])⟩
  have f5 := top_lt (low_tab hW) k1 k2 f1 f4
  have f3 : k = rkN (cRows C 2) (cCols C 2) (cTab C 2) := rkN_eq (isRk_and (v := cCh C i) (rch_rank k3 k1 k2 k4))
  have f6 : ∀ i, i < k → 0 < ((G i i).natAbs : Int) := fun i hi => by have := f1 i hi; omega
  have wsm := sm2 k G k3
  have dg := k3 _ (fun x y _ _ hxy => by omega) (dgS_clo (R := cRows C 2) (K' := cCols C 2))
  have eD := k3 _ (fun q x => Iff.rfl) (eqD_clo (R := cRows C 2) (K' := cCols C 2) (K := cCols C 2 + 1) (F0 := tWc C i) (by omega))
  have W : dgW (cRows C 2) (cCols C 2) k (fun i => G i i) (fun x => G x (cCols C 2)) G := ⟨k1, k2, fun x y hx hy => by
    unfold dgM
    by_cases c : x < k ∨ y < k
    · have ⟨d1, d2⟩ := dg x y hx hy c
      by_cases xy : x = y
      · subst xy; rw [if_pos ⟨rfl, by omega⟩]
      · rw [if_neg (fun z => xy z.1)]; exact d1 xy
    · rw [if_neg (by omega)]; exact k4 x y ⟨by omega, hx, by omega, hy⟩, fun _ _ => rfl, f1⟩
  have nP : ∀ j, j < k → nO G (cCols C 2) j ∣ pr k (fun i => ((G i i).natAbs : Int)) := fun j hj => by
    have a1 := (nO_pos (K := cCols C 2) (f1 j hj)).2.2
    have a2 := pr_upI (d := fun i => ((G i i).natAbs : Int)) (i := j) (v := 1) k hj
    rw [Int.mul_one] at a2
    rw [← a2, ← a1]
    exact Int.dvd_trans (Int.dvd_mul_right _ _) (Int.dvd_mul_left _ _)
  refine jo_bd (jo_mono (jx_ordL h5.md (by omega) (by omega) hN k1 k2 (fun i hi => ⟨f1 i hi, by have := pr_one f6 hi; omega⟩) wsm ⟨pr_pos f6, f5⟩ nP) ?_)
  have fin : jSub (jMk md M.2.2) (jMk md M4.2.2) := (s1.tr s2).tr h5.2.2.2.2
  rintro y M5 ⟨rfl, ⟨⟨i', i1, i2, i3⟩, rfl⟩ | ⟨hz, L, L0, L1, rfl, hL⟩⟩
  · unfold jf_X9_order_k25_63
    refine jo_ret ⟨?_, fin, E5.mono (by omega) (by omega)⟩
    have e := gN_eq_rk (eD) (dgW_rk1 W i1 i2 i3)
    unfold cOrd
    rw [if_neg (by rw [← f3]; omega)]
  · unfold jf_X9_order_k25_123
    refine jo_ret ⟨?_, fin, E5.mono (by omega) (by omega)⟩
    have r0 := dgW_rk W hz
    have r1 : isRk (cRows C 2) (cCols C 2 + 1) (tWc C i) k := ⟨r0.1, r0.2.1, fun y => r0.2.2.1 ((eD _ _).mp y), fun q hq => (eD _ _).mpr (r0.2.2.2 q hq)⟩
    obtain ⟨Mq, m1, m2⟩ := ord_arith (k := k) (d := fun i => G i i) (w := fun x => G x (cCols C 2)) (n := nO G (cCols C 2)) (g := fun j => ((Int.gcd ((G j j).natAbs : Int) (G j (cCols C 2)) : Nat) : Int)) (e := fun j => pr k (upI (fun i => G i i) j 1)) (P := pr k (fun i => G i i)) (L := L) (pr_ne f1) (fun j hj => by
        have := pr_upI (d := fun i => G i i) (i := j) (v := 1) k hj
        rw [Int.mul_one] at this
        exact this) (fun j hj => ⟨Int.dvd_natAbs.mp (Int.gcd_dvd_left ..), Int.gcd_dvd_right .., bezI _ _⟩) (fun j hj => by
        have := (nO_pos (K := cCols C 2) (f1 j hj)).2.2
        omega) hL
    have b1 : gN k (cRows C 2) (cCols C 2) (cTab C 2) = ((pr k (fun i => G i i)).natAbs : Int) := gAbs (fun x => (f4 k x).trans dvP_top)
    have b2 : gN k (cRows C 2) (cCols C 2 + 1) (tWc C i) = (Mq.natAbs : Int) := gAbs (fun x => ((eD k x).trans (dgW_dv W hz)).trans (m2 x))
    unfold cOrd
    rw [← rkN_eq r1, ← f3, if_pos (Nat.le_refl k), b1, b2, m1, Int.natAbs_mul]
    have M0 : Mq ≠ 0 := fun y => pr_ne f1 (by rw [m1, y]; omega)
    congr 2
    rw [Int.natCast_mul, Int.mul_ediv_cancel _ (by omega)]
    omega
end WH
