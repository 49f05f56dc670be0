/-! PLAIN LAW, 93.u: twist on both sides -/
noncomputable def gN (k R K : Nat) (A : Nat → Nat → Int) : Int := @dite Int (∃ g, jG k R K A g) (Classical.propDecidable _) (fun h => Classical.choose h) (fun _ => 0)
theorem gN_eq {k R K : Nat} {A : Nat → Nat → Int} {g : Int} (h : jG k R K A g) : g = gN k R K A := by
  unfold gN
  rw [dif_pos ⟨g, h⟩]
  exact h.eq (Classical.choose_spec (⟨g, h⟩ : ∃ g, jG k R K A g)) (fun _ => Iff.rfl)
theorem dv_up {k R K : Nat} {A : Nat → Nat → Int} {x : Int} (h : dv k R K A x) : dv (k + 1) R K A x := by
  intro σ τ hs ht
  rw [mn_succ]
  refine dvd_ds (fun i hi => Int.dvd_trans ?_ (Int.dvd_mul_left (sgn i) _))
  refine Int.dvd_trans ?_ (Int.dvd_mul_left _ _)
  exact h (fun a => σ (dk i a)) (fun b => τ (b + 1)) (fun a ha => hs _ (dk_lt ha)) (fun b hb => ht _ (by omega))
theorem dv_ups {k R K : Nat} {A : Nat → Nat → Int} {x : Int} (h : dv k R K A x) : ∀ n, dv (k + n) R K A x := by
  intro n
  induction n with
  | zero => exact h
  | succ n ih => exact dv_up ih
theorem twN.gN {R K k : Nat} {F : Nat → Nat → Int} {a : Nat → Int} (h : twN R K k F a) {z : Nat} (hz : z ≤ k) : pr z a = gN z R K F := by
  obtain ⟨_, _, h1, h2, _, h3, _⟩ := h
  exact gN_eq ⟨Int.le_of_lt (pr_pos (fun x hx => h1 x (by omega))), fun d => (h3 z d).trans (dvP_chain hz h2)⟩
/-- the tables of some columns of table 2 stay small -/
def jSm2 (C : CX) : Prop := ∀ s, s < 2 ^ cCols C 2 → smallA (cRows C 2) (sN s) (smT (cTab C 2) s)
noncomputable def aTwist (C : CX) (s v : Int32) : Int32 := if ¬ 0 < cP C then STATE else if ¬ (0 ≤ s.toInt ∧ s.toInt ≤ ((2 ^ cCols C 2 - 1 : Nat) : Int)) then BAD else if ¬ (0 : Int32) ≤ v then BAD else
  if v = 0 then (jI (gN (rkN (cRows C 2) (sN (tn s)) (smT (cTab C 2) (tn s))) (cRows C 2) (sN (tn s)) (smT (cTab C 2) (tn s)))).toInt32
  else if v ≤ nI (rkN (cRows C 2) (sN (tn s)) (smT (cTab C 2) (tn s))) then (jI (gN (tn v) (cRows C 2) (sN (tn s)) (smT (cTab C 2) (tn s)) / gN (tn v - 1) (cRows C 2) (sN (tn s)) (smT (cTab C 2) (tn s)))).toInt32 else -1000000
theorem gN_div {R K k : Nat} {F : Nat → Nat → Int} {a : Nat → Int} (h : twN R K k F a) {z : Nat} (hz : z < k) : a z = gN (z + 1) R K F / gN z R K F := by
  rw [← h.gN (show z + 1 ≤ k by omega), ← h.gN (show z ≤ k by omega), pr_succ]
  have : 0 < pr z a := pr_pos (fun x hx => h.2.2.1 x (by omega))
  exact (Int.mul_ediv_cancel_left _ (by omega)).symm
theorem low6 {R K : Nat} {F : Nat → Nat → Int} (h5 : R ≤ 5 ∨ K ≤ 5) (h : ∀ i j, i < R → j < K → (F i j).natAbs ≤ 4) : lowM R K F := by
  intro k σ τ h1 h2 hs ht
  have k5 : k ≤ 5 := by omega
  have := mn_abs (n := k) (A := fun a b => F (σ a) (τ b)) (M := 4) (fun i j hi hj => h _ _ (hs i hi) (ht j hj))
  have h3 : fct k * 4 ^ k < 9223372036854775808 := by
    rcases (show k = 0 ∨ k = 1 ∨ k = 2 ∨ k = 3 ∨ k = 4 ∨ k = 5 by omega) with rfl | rfl | rfl | rfl | rfl | rfl <;> decide
  omega
section TQ
variable {N x m : Nat} {ad : Nat → Nat} {md : Nat → Bool} {c s : Nat} {M0 M : Mem} {T : ST} {C : CX} {S : MS} {f : Nat → Int64}
theorem cF4 (hW : jWf C) : cCols C 2 = cF C ∧ cF C ≤ 4 := ⟨rfl, hW.2.2.1⟩
theorem smT_sub (hW : jWf C) {b : Nat} (hb : b < 2 ^ cCols C 2) : ∀ i j, i < cRows C 2 → j < sN b → cSub C 2 0 b i j = smT (cTab C 2) b i j := by
  intro i j _ hj
  have := nt_lt hb (cCols_le hW) hj
  have h4 := cF4 hW
  unfold cSub cWd smT
  rw [if_neg (by omega)]
theorem rk_sub (hW : jWf C) {b r : Nat} (hb : b < 2 ^ cCols C 2) (h : isRk (cRows C 2) (sN b) (cSub C 2 0 b) r) : r = rkN (cRows C 2) (sN b) (smT (cTab C 2) b) := rkN_eq (isRk_cg (smT_sub hW hb) h)
theorem jm_gN (h : jMM m ad M0 (s15 S f) M) (hC : jEnc C (S.1 0)) (hW : jWf C) (hN : 9223372036854775809 < N) {b k : Nat} (hb : b < 2 ^ cCols C 2) (hk : k ≤ 4) : jo (jf_X1_minorsOf N m (nI 2) (nI b) (nI k) (nI 0)) M (fun x M' => (x = jI (gN k (cRows C 2) (sN b) (smT (cTab C 2) b)) ∧ gN k (cRows C 2) (sN b) (smT (cTab C 2) b) < 9223372036854775808 ∧ jG k (cRows C 2) (sN b) (smT (cTab C 2) b) (gN k (cRows C 2) (sN b) (smT (cTab C 2) b))) ∧ ∃ g, jMM m ad M0 (s15 S g) M') := by
  have h64 : b < 64 := Nat.lt_of_lt_of_le hb (Nat.pow_le_pow_right (n := 2) (by decide) (cCols_le hW))
  refine jo_mono (jm_minorsOf (d := 2) (c := 0) h hC hW hN (.inr rfl) (show 0 < 3 by decide) h64 (by omega) (fun j hj => .inl (tb_lt hb hj))) ?_
  rintro x M1 ⟨⟨g, rfl, hg⟩, hw⟩
  have hG : jG k (cRows C 2) (sN b) (smT (cTab C 2) b) (g : Int) := ⟨by omega, fun d => by
    rw [← hg.2 d]
    refine Iff.trans ?_ (vS_dv hW h64).symm
    exact ⟨dv_cg (fun i j hi hj => (smT_sub hW hb i j hi hj).symm), dv_cg (smT_sub hW hb)⟩⟩
  have e := gN_eq hG
  refine ⟨⟨by rw [← e], by rw [← e]; have := hg.1; omega, by rw [← e]; exact hG⟩, hw⟩
theorem jx_twisted (hM : ∀ a, md a = true → a < M0.1) (hE : jExt md c s M0 M) {a b : Nat} (h : jCx a C (jMk md M.2.2)) (hW : jWf C) (hS : jSm2 C) (hb : b < 2 ^ cCols C 2) (hN : 1180591620717411303424 < N) {β : Type} {p : Option Nat → jm_P β} {Q : β → Mem → Prop}
    (kk : ∀ q k w M1, twN (cRows C 2) (sN b) k (smT (cTab C 2) b) w → jRow q k w (jMk md M1.2.2) → jSub (jMk md M.2.2) (jMk md M1.2.2) → jExt md (c + 40) (s + 200) M0 M1 → jo (p (some q)) M1 Q) :
    jo (jm_rd (jm_cl 9 (some a)) fun a17 => jm_bd (jf_X9_table N a17 (2 : Int32)) fun x14 => jm_rd (jm_cl 11 x14) fun a23 => jm_bd (jf_X11_some N a23 (nI b)) fun x20 => jm_rd (jm_cl 11 x20) fun a29 => jm_bd (jf_X11_twists N a29) p) M Q := by
  have hr6 := cRows_le hW (d := 2)
  have hk6 := cCols_le hW (d := 2)
  have h64 : b < 64 := Nat.lt_of_lt_of_le hb (Nat.pow_le_pow_right (n := 2) (by decide) hk6)
  have h4 := cF4 hW
  have hs4 : sN b ≤ cCols C 2 := sN_K _ (by omega) b hb
  have rk : cRows C 2 * (sN b + 1) ≤ 6 * 5 := Nat.mul_le_mul hr6 (by omega)
  have rk2 : cRows C 2 * (sN b) ≤ 6 * 5 := Nat.mul_le_mul hr6 (by omega)
  obtain ⟨va, ha⟩ := h.ob
  refine jo_cl (mkg ha).2 (jo_bd (jo_mono (jx_table9 (d := 2) hM hE h hW (.inr rfl) (by omega)) ?_))
  rintro r M1 ⟨t, rfl, s1, E1, ht⟩
  refine jT_cl (ht.sub jMk.sub) (jo_bd (jo_mono (jx_some hM E1 ht (by omega) hk6 (by omega) hb) ?_))
  rintro r M2 ⟨t2, ar, rr, rf, rfl, h2, E2⟩
  refine jN_cl h2.md (jo_bd (jo_mono (jx_twists hM E2 h2.tb (by omega) (by omega) hN (hS b hb) (low6 (by omega) (fun i j hi hj => cTab_rg hW (nt_lt hb hk6 hj)))) ?_))
  rintro r M3 ⟨q, k, w, rfl, h3, h5, s3, E3⟩
  exact kk q k w M3 h3 h5 ((s1.tr h2.2.2.2.2).tr s3) (E3.mono (by omega) (by omega))
theorem jx_twist (h : jRX x T (jMk md M.2.2)) (hM : ∀ a, md a = true → a < M0.1) (hE : jExt md c s M0 M) (hW : jWfS T) (hS : jSm2 (sC T)) (hN : 1180591620717411303424 < N) {d v : Int32} : jo (jf_X0_twist N x d v) M (jOX x md (c + 40) (s + 200) M0 (aTwist (sC T) d v, T)) := by
  have hR := h
  have hE' := hE.mono (show c ≤ c + 40 by omega) (show s ≤ s + 200 by omega)
  obtain ⟨its, tp, pa, im, tf, pf, mf, h⟩ := h
  unfold jf_X0_twist aTwist
  refine jo_fQ (r := its) (mkg h.ob).2 (by decide) rfl ?_
  have hcx := h.cx
  cases its with
  | none =>
    have z : cP (sC T) = 0 := hcx.1
    refine jo_t rfl (jo_ret ⟨?_, hR, hE'⟩)
    dsimp only
    rw [if_pos (by omega)]; rfl
  | some q =>
    obtain ⟨hp, hq⟩ : 0 < cP (sC T) ∧ jCx q (sC T) (jMk md M.2.2) := hcx
    have h4 := cF4 hW.1
    have hk6 := cCols_le hW.1 (d := 2)
    obtain ⟨eA, fA, cA, q1, q2, q3, q4⟩ := id hq
    obtain ⟨fr, f1, f2⟩ := q3
    have pp : 0 < 2 ^ cCols (sC T) 2 := Nat.pow_pos (by decide)
    have p64 : 2 ^ cCols (sC T) 2 ≤ 64 := Nat.pow_le_pow_right (n := 2) (by decide) hk6
    refine jo_ne (jo_fR (mkg h.ob).2 (by decide) rfl (jo_fR (mkg q1).2 (by decide) rfl (jo_len (mkg f1).2 rfl ?_)))
    have e1 : ((1 : Int32) <<< (nI (cF (sC T)) &&& 31)) - (1 : Int32) = nI (2 ^ cCols (sC T) 2 - 1) := by
      rw [shl_nI _ (by omega)]; exact nI_sub (a := 2 ^ cF (sC T)) (b := 1) pp
    rw [e1]
    refine jo_eq (in32X (a := 0) (b := ((2 ^ cCols (sC T) 2 - 1 : Nat) : Int)) rfl (by rw [Int32.toInt_toInt64, nI_toInt (by omega)])) (jo_bI (fun c1 => jo_ret ⟨?_, hR, hE'⟩) (fun c1 => ?_))
    · dsimp only
      rw [if_neg (fun y => y hp), if_pos c1]; rfl
    · by_cases c2 : (0 : Int32) ≤ v
      · refine jo_t c2 ?_
        obtain ⟨b, hb, rfl, _⟩ := n_of c1.1 c1.2 (by omega)
        obtain ⟨va, ha⟩ := hq.ob
        rw [if_neg (show ¬ ¬ 0 < cP (sC T) from fun y => y hp), if_neg (show ¬ ¬ (0 ≤ (nI b).toInt ∧ (nI b).toInt ≤ ((2 ^ cCols (sC T) 2 - 1 : Nat) : Int)) from fun y => y c1), if_neg (show ¬ ¬ (0 : Int32) ≤ v from fun y => y c2), tn_nI (by omega)]
        by_cases c3 : v = 0
        · subst c3
          refine jo_t rfl (jo_fR (mkg h.ob).2 (by decide) rfl ?_)
          refine jo_cl (mkg ha).2 ?_
          unfold jf_X9_twisted
          refine jo_bd ?_
          refine jx_twisted (b := b) hM hE hq hW.1 hS (by omega) hN (fun q' k w M1 w1 w2 s1 E1 => ?_)
          have k4 : k ≤ cCols (sC T) 2 := Nat.le_trans w1.2.1 (sN_K _ (by omega) b (by omega))
          obtain ⟨g, g1, g2⟩ := id w2
          refine jo_len (mkg g1).2 rfl ?_
          refine jo_bd (jo_mono (jo_up k (fun i z M' => M' = M1 ∧ z = (jI (pr i w), nI i)) (fun r M' => M' = M1 ∧ r = jI (pr k w)) ?_ ?_ N 0 _ M1 ⟨rfl, rfl⟩ (Nat.zero_le _) (by omega)) ?_)
          · rintro i z M' hi ⟨rfl, rfl⟩
            unfold jf_X9_twisted_L24
            refine jo_f (by rw [nI_leI (by omega) (by omega)]; omega) (jRow_ld w2.ml rfl hi (by omega) (jo_ret ⟨rfl, ?_⟩))
            rw [jI_mul, nI_1, pr_succ]
          · rintro z M' ⟨rfl, rfl⟩
            unfold jf_X9_twisted_L24
            exact jo_t (by rw [nI_leI (by omega) (by omega)]; omega) (jo_ret ⟨rfl, rfl⟩)
          · rintro r M2 ⟨rfl, rfl⟩
            unfold jf_X9_twisted_k24_49
            refine jo_ret (jo_ret ⟨?_, hR.sub s1, E1⟩)
            rw [if_pos rfl, ← rkN_eq w1.2.2.2.2.2.2, w1.gN (Nat.le_refl k)]
        · refine jo_f c3 (jo_fR (mkg h.ob).2 (by decide) rfl ?_)
          refine jx_twisted (b := b) hM hE hq hW.1 hS (by omega) hN (fun q' k w M1 w1 w2 s1 E1 => ?_)
          have k4 : k ≤ cCols (sC T) 2 := Nat.le_trans w1.2.1 (sN_K _ (by omega) b (by omega))
          obtain ⟨g, g1, g2⟩ := id w2
          refine jo_len (mkg g1).2 rfl ?_
          rw [if_neg c3, ← rkN_eq w1.2.2.2.2.2.2]
          by_cases c4 : nI k < v
          · refine jo_t c4 (jo_ret ⟨?_, hR.sub s1, E1⟩)
            dsimp only
            rw [if_neg (by rw [Int32.le_iff_toInt_le]; rw [Int32.lt_iff_toInt_lt] at c4; omega)]
          · have c5 : v ≤ nI k := by rw [Int32.le_iff_toInt_le]; rw [Int32.lt_iff_toInt_lt] at c4; omega
            obtain ⟨v', hv, rfl, _⟩ := n_of (x := v) (n := k) (by rw [Int32.le_iff_toInt_le] at c2; exact c2) (by rw [Int32.le_iff_toInt_le, nI_toInt (by omega)] at c5; exact c5) (by omega)
            have v0 : v' ≠ 0 := fun y => c3 (by rw [y]; rfl)
            refine jo_f c4 (jRow_ld w2.ml (i := v' - 1) (nI_sub (a := v') (b := 1) (by omega)) (by omega) (by omega) (jo_ret ⟨?_, hR.sub s1, E1⟩))
            rw [if_pos c5, tn_nI (by omega), gN_div w1 (show v' - 1 < k by omega), show v' - 1 + 1 = v' by omega]
      · refine jo_f c2 (jo_ret ⟨?_, hR, hE'⟩)
        dsimp only
        rw [if_neg (fun y => y hp), if_neg (fun y => y c1), if_pos c2]; rfl
theorem jm_twist (h : jMM m ad M0 S M) (hC : jEnc C (S.1 0)) (hW : jWf C) (hN : 9223372036854775809 < N) {d v : Int32} : jo (jf_X1_twist N m d v) M (fun r M' => r = aTwist C d v ∧ ∃ g, jMM m ad M0 (s15 S g) M') := by
  have h' : jMM m ad M0 (s15 S (S.2.1 15)) M := by rw [s15_self]; exact h
  have h4 := cF4 hW
  have hk6 := cCols_le hW (d := 2)
  have pp : 0 < 2 ^ cCols C 2 := Nat.pow_pos (by decide)
  have p64 : 2 ^ cCols C 2 ≤ 64 := Nat.pow_le_pow_right (n := 2) (by decide) hk6
  unfold jf_X1_twist aTwist
  refine jo_rd (jM_cl h) (jo_eq (jr_isComplex h hC hW) (jo_bI (fun c0 => jo_ret ⟨?_, _, h'⟩) (fun c0 => ?_)))
  · rw [if_pos c0]; rfl
  · rw [if_neg (show ¬ ¬ 0 < cP C from fun y => y c0)]
    have no : ¬ (0 ≤ d.toInt ∧ d.toInt ≤ ((2 ^ cCols C 2 - 1 : Nat) : Int)) → (if ¬ (0 ≤ d.toInt ∧ d.toInt ≤ ((2 ^ cCols C 2 - 1 : Nat) : Int)) then BAD else if ¬ (0 : Int32) ≤ v then BAD else if v = 0 then (jI (gN (rkN (cRows C 2) (sN (tn d)) (smT (cTab C 2) (tn d))) (cRows C 2) (sN (tn d)) (smT (cTab C 2) (tn d)))).toInt32 else if v ≤ nI (rkN (cRows C 2) (sN (tn d)) (smT (cTab C 2) (tn d))) then (jI (gN (tn v) (cRows C 2) (sN (tn d)) (smT (cTab C 2) (tn d)) / gN (tn v - 1) (cRows C 2) (sN (tn d)) (smT (cTab C 2) (tn d)))).toInt32 else -1000000) = -1000001 := fun c => by rw [if_pos c]; rfl
    by_cases c1 : d < 0
    · refine jo_t c1 (jo_ret ⟨(no (fun y => ?_)).symm, _, h'⟩)
      rw [Int32.lt_iff_toInt_lt] at c1
      have : (0 : Int32).toInt = 0 := rfl
      omega
    · refine jo_f c1 (jo_rd (jM_cl h) (jo_eq (jr_allColumns h hC hW (.inr rfl)) ?_))
      by_cases c2 : nI (2 ^ cCols C 2 - 1) < d
      · refine jo_t c2 (jo_ret ⟨(no (fun y => ?_)).symm, _, h'⟩)
        rw [Int32.lt_iff_toInt_lt, nI_toInt (by omega)] at c2
        omega
      · refine jo_f c2 ?_
        have c3 : 0 ≤ d.toInt ∧ d.toInt ≤ ((2 ^ cCols C 2 - 1 : Nat) : Int) := by
          rw [Int32.lt_iff_toInt_lt] at c1
          rw [Int32.lt_iff_toInt_lt, nI_toInt (by omega)] at c2
          have : (0 : Int32).toInt = 0 := rfl
          omega
        rw [if_neg (show ¬ ¬ _ from fun y => y c3)]
        by_cases c4 : (0 : Int32) ≤ v
        · obtain ⟨b, hb, rfl, _⟩ := n_of c3.1 c3.2 (by omega)
          have hb : b < 2 ^ cCols C 2 := by omega
          have h64 : b < 64 := by omega
          refine jo_t c4 (jo_rd (jM_cl h) (jo_bd (jo_mono (jm_rankOf (d := 2) (c := 0) h' hC hW hN (.inr rfl) (by decide) h64 (.inr (by have := sN_K _ (by omega) b hb; omega)) (fun j hj => .inl (tb_lt hb hj))) ?_)))
          rintro r M1 ⟨⟨k, rfl, hk⟩, w, h1⟩
          have hk4 : k ≤ 4 := by have := hk.2.1; have := sN_K _ (by omega) b hb; omega
          have hk0 := isRk_cg (smT_sub hW hb) hk
          rw [if_neg (show ¬ ¬ (0 : Int32) ≤ v from fun y => y c4), tn_nI (by omega), ← rk_sub hW hb hk]
          by_cases c5 : v = 0
          · subst c5
            refine jo_t rfl (jo_rd (jM_cl h1) (jo_bd (jo_mono (jm_gN h1 hC hW hN hb hk4) ?_)))
            rintro r M2 ⟨⟨rfl, _⟩, w2⟩
            exact jo_ret ⟨by rw [if_pos rfl], w2⟩
          · refine jo_f c5 ?_
            rw [if_neg c5]
            by_cases c6 : v ≤ nI k
            · obtain ⟨v', hv, rfl, _⟩ := n_of (x := v) (n := k) (by rw [Int32.le_iff_toInt_le] at c4; exact c4) (by rw [Int32.le_iff_toInt_le, nI_toInt (by omega)] at c6; exact c6) (by omega)
              have v0 : v' ≠ 0 := fun y => c5 (by rw [y]; rfl)
              refine jo_t c6 (jo_rd (jM_cl h1) (jo_bd (jo_mono (jm_gN h1 hC hW hN hb (show v' ≤ 4 by omega)) ?_)))
              rintro r M2 ⟨⟨rfl, l1, l2⟩, w2, h2⟩
              rw [show nI v' - (1 : Int32) = nI (v' - 1) from nI_sub (a := v') (b := 1) (by omega)]
              refine jo_rd (jM_cl h2) (jo_bd (jo_mono (jm_gN h2 hC hW hN hb (show v' - 1 ≤ 4 by omega)) ?_))
              rintro r M3 ⟨⟨rfl, l3, l4⟩, w3, h3⟩
              have n1 := l2.1
              have n2 := l4.1
              have n3 : gN (v' - 1) (cRows C 2) (sN b) (smT (cTab C 2) b) ≠ 0 := fun y => hk0.2.2.1 (by
                have := dv_ups ((l4.2 0).mpr (by rw [y]; exact Int.dvd_refl 0)) (k - (v' - 1))
                rwa [show v' - 1 + (k - (v' - 1)) = k by omega] at this)
              refine jo_ck (by rw [jI_0 (by omega)]; exact n3) (jo_ret ⟨?_, w3, h3⟩)
              rw [if_pos c6, tn_nI (by omega), jI_tdv (by omega) (by omega), Int.tdiv_eq_ediv_of_nonneg n1]
            · exact jo_f c6 (jo_ret ⟨by rw [if_neg c6], w, h1⟩)
        · exact jo_f c4 (jo_ret ⟨by rw [if_pos c4]; rfl, _, h'⟩)
theorem jb_twist (hN : 1180591620717411303424 < N) (hS : ∀ C, jWf C → jSm2 C) {d p : Int32} : jBoth x m ad 40 200 (jf_X0_twist N x d p) (jf_X1_twist N m d p) := jBoth_act (fun T => (aTwist (sC T) d p, T)) (fun _ _ h hM hE hW => jx_twist h hM hE hW (hS _ hW.1) hN) (fun _ _ _ h hT hW => jo_mono (jm_twist h hT.1 hW.1 (by omega)) (fun _ _ g => ⟨g.1, _, g.2.choose_spec, jRM_15 hT⟩)) (fun _ h => h)
end TQ
