/-! PLAIN LAW, 93.d: the model's minors, their greatest common divisor, ranks -/
section GC
variable {N : Nat} {M : Mem}
theorem jI_nat_rem {x y : Nat} (hx : x < 9223372036854775808) (hy : y < 9223372036854775808) : jI (x : Int) - jI (x : Int) / jI (y : Int) * jI (y : Int) = jI ((x % y : Nat) : Int) := by
  rw [jI_tdv (by omega) (by omega), jI_mul, jI_sub]
  congr 1
  show (x : Int) - ((x / y : Nat) : Int) * (y : Int) = _
  have := Nat.div_add_mod x y
  have e : ((x / y : Nat) : Int) * (y : Int) = ((y * (x / y) : Nat) : Int) := by rw [Int.natCast_mul, Int.mul_comm]
  rw [e]
  omega
theorem jr_gcdL (y : Nat) : ∀ (x : Nat) (N' : Nat), x < 9223372036854775808 → y < 9223372036854775808 → y < N' → jo (jm_it (fun z => jf_X1_gcd_L28 N z.1 z.2) N' (jI (x : Int), jI (y : Int))) M (fun r M' => r = jI ((Nat.gcd x y : Nat) : Int) ∧ M' = M) := by
  induction y using Nat.strongRecOn with
  | _ y ih =>
    intro x N' hx hy hN'
    obtain ⟨N', rfl⟩ : ∃ n, N' = n + 1 := ⟨N' - 1, by omega⟩
    by_cases c : y = 0
    · subst c
      have hd : jo (jf_X1_gcd_L28 N (jI (x : Int)) (jI ((0 : Nat) : Int))) M (fun z M' => M' = M ∧ z = .inr (jI (x : Int))) := by
        unfold jf_X1_gcd_L28
        exact jo_t rfl (jo_ret ⟨rfl, rfl⟩)
      refine jo_its (jo_mono hd ?_)
      rintro z M1 ⟨rfl, rfl⟩
      exact ⟨by rw [Nat.gcd_zero_right], rfl⟩
    · have hm := Nat.mod_lt x (Nat.pos_of_ne_zero c)
      have hd : jo (jf_X1_gcd_L28 N (jI (x : Int)) (jI (y : Int))) M (fun z M' => M' = M ∧ z = .inl (jI (y : Int), jI ((x % y : Nat) : Int))) := by
        unfold jf_X1_gcd_L28
        have h0 : ¬ jI (y : Int) = (0 : Int64) := by rw [jI_0 (by omega)]; omega
        refine jo_f h0 (jo_ck h0 (jo_ret ⟨rfl, ?_⟩))
        rw [jI_nat_rem hx hy]
      refine jo_its (jo_mono hd ?_)
      rintro z M1 ⟨rfl, rfl⟩
      refine jo_mono (ih (x % y) hm y N' hy (by omega) (by omega)) ?_
      rintro r M2 ⟨rfl, rfl⟩
      refine ⟨?_, rfl⟩
      congr 2
      rw [Nat.gcd_comm x y, Nat.gcd_rec y x, Nat.gcd_comm]
theorem jr_gcd {a b : Int} (ha : a.natAbs < 9223372036854775808) (hb : b.natAbs < 9223372036854775808) (hN : 9223372036854775808 < N) : (jf_X1_gcd N (jI a) (jI b)).1 M = some (jI ((Int.gcd a b : Nat) : Int), M) := by
  refine jo_out ?_
  have fin : ∀ t : Nat, t < 9223372036854775808 → t = a.natAbs → jo (jf_X1_gcd_j12 N (jI b) (jI (t : Int))) M (fun r M' => r = jI ((Int.gcd a b : Nat) : Int) ∧ M' = M) := by
    rintro t ht rfl
    have f2 : ∀ u : Nat, u = b.natAbs → jo (jf_X1_gcd_j26 N (jI (a.natAbs : Int)) (jI (u : Int))) M (fun r M' => r = jI ((Int.gcd a b : Nat) : Int) ∧ M' = M) := by
      rintro u rfl
      unfold jf_X1_gcd_j26 jf_X1_gcd_k28_53
      refine jo_bd (jo_mono (jr_gcdL b.natAbs a.natAbs N ha hb (by omega)) ?_)
      rintro r M1 ⟨rfl, rfl⟩
      exact jo_ret ⟨rfl, rfl⟩
    unfold jf_X1_gcd_j12
    by_cases c : 0 ≤ b
    · have e : jI b = jI ((b.natAbs : Nat) : Int) := by congr 1; omega
      refine jo_t (show jI 0 ≤ jI b by rw [Int64.le_iff_toInt_le, jI_toInt (by omega) (by omega), jI_toInt (by omega) (by omega)]; exact c) ?_
      rw [e]
      exact f2 _ rfl
    · have e : - jI b = jI ((b.natAbs : Nat) : Int) := by rw [jI_neg]; congr 1; omega
      refine jo_f (show ¬ jI 0 ≤ jI b by rw [Int64.le_iff_toInt_le, jI_toInt (by omega) (by omega), jI_toInt (by omega) (by omega)]; exact c) ?_
      rw [e]
      exact f2 _ rfl
  unfold jf_X1_gcd
  by_cases c : 0 ≤ a
  · have e : jI a = jI ((a.natAbs : Nat) : Int) := by congr 1; omega
    refine jo_t (show jI 0 ≤ jI a by rw [Int64.le_iff_toInt_le, jI_toInt (by omega) (by omega), jI_toInt (by omega) (by omega)]; exact c) ?_
    rw [e]
    exact fin _ ha rfl
  · have e : - jI a = jI ((a.natAbs : Nat) : Int) := by rw [jI_neg]; congr 1; omega
    refine jo_f (show ¬ jI 0 ≤ jI a by rw [Int64.le_iff_toInt_le, jI_toInt (by omega) (by omega), jI_toInt (by omega) (by omega)]; exact c) ?_
    rw [e]
    exact fin _ ha rfl
end GC
/-- a number of a table, with a chain beside table 2 in column 4 -/
def cWd (C : CX) (d c i j : Nat) : Int := if d = 2 ∧ j = 4 then cCh C c i else cTab C d i j
theorem cTwo_rg {C : CX} (hW : jWf C) {e f : Nat} (hf : f < cF C) : (cTwo C e f).natAbs ≤ 4 := by
  have h := jsum_le (n := cFl C f) (f := fun k => lSg (cLt C f k) e) (a := 1) (fun k _ => lSg_le _ e)
  have := (hW.2.2.2.2.1 f hf).2.2.2.1
  unfold cTwo
  omega
theorem cOne_rg {C : CX} {p e : Nat} : (cOne C p e).natAbs ≤ 1 := by
  unfold cOne
  split <;> split <;> omega
theorem cTab_rg {C : CX} (hW : jWf C) {d i j : Nat} (hj : j < cCols C d) : (cTab C d i j).natAbs ≤ 4 := by
  unfold cTab
  unfold cCols at hj
  split
  · have := cOne_rg (C := C) (p := i) (e := j); omega
  · rename_i h; rw [if_neg h] at hj; exact cTwo_rg hW hj
theorem cWd_rg {C : CX} (hW : jWf C) {d c i j : Nat} (hc : c < 3) (hi : i < cRows C d) (hj : j < cCols C d ∨ (d = 2 ∧ j = 4)) : (cWd C d c i j).natAbs ≤ 9 := by
  unfold cWd
  by_cases e : d = 2 ∧ j = 4
  · rw [if_pos e]
    have hi : i < cE C := by unfold cRows at hi; rw [if_neg (by omega)] at hi; exact hi
    have := hW.2.2.2.2.2 c i hc hi
    omega
  · rw [if_neg e]
    have := cTab_rg hW (i := i) (hj.resolve_right e)
    omega
theorem jBd_59 {n : Nat} (hn : n ≤ 5) : jBd n 9 := by
  constructor
  · intro k hk
    rcases (show k = 0 ∨ k = 1 ∨ k = 2 ∨ k = 3 by omega) with rfl | rfl | rfl | rfl <;> decide
  · intro k hk
    rcases (show k = 0 ∨ k = 1 ∨ k = 2 ∨ k = 3 ∨ k = 4 by omega) with rfl | rfl | rfl | rfl | rfl <;> decide
section MM
variable {N m : Nat} {ad : Nat → Nat} {M0 M : Mem} {S : MS} {C : CX} {f : Nat → Int64}
theorem jr_wide (h : jMM m ad M0 S M) (hC : jEnc C (S.1 0)) (hW : jWf C) (hN : 100 < N) {d c i j : Nat} (hd : d = 1 ∨ d = 2) (hc : c < 3) (hi : i < cRows C d) (hj : j < cCols C d ∨ (d = 2 ∧ j = 4)) : (jf_X1_wide N m (nI d) (nI i) (nI j) (nI c)).1 M = some (iI (cWd C d c i j), M) := by
  have h6 := hW.2.1
  have h4 := hW.2.2.1
  have hr := cRows_le hW (d := d)
  have hk := cCols_le hW (d := d)
  refine jo_out ?_
  unfold jf_X1_wide jf_X1_wide_j28
  have tab : ¬ (d = 2 ∧ j = 4) → jo (jm_rd (jm_cl 1 (some m)) fun a5 => jm_bd (jf_X1_entry N a5 (nI d) (nI i) (nI j)) fun x2 => jm_ret x2) M (fun r M' => r = iI (cWd C d c i j) ∧ M' = M) := by
    intro e
    refine jo_rd (jM_cl h) (jo_eq (jr_entry h hC hW hN hd (by omega) (hj.resolve_right e)) (jo_ret ⟨?_, rfl⟩))
    unfold cWd
    rw [if_neg e]
  by_cases c2 : d = 2
  · subst c2
    refine jo_t (by rfl) ?_
    by_cases c4 : j = 4
    · subst c4
      have hi : i < cE C := hi
      refine jo_t (by rfl) (jo_rd (jM_fR h (k := 0) rfl) (jo_rd (jr_ch h hC hW hc hi (by simp only [nI_lit, nI_mul, nI_add])) (jo_ret ⟨?_, rfl⟩)))
      unfold cWd
      rw [if_pos ⟨rfl, rfl⟩]
    · exact jo_f (show ¬ nI j = nI 4 by rw [nI_eq (by omega) (by omega)]; exact c4) (tab (fun y => c4 y.2))
  · exact jo_f (show ¬ nI d = nI 2 by rw [nI_eq (by omega) (by omega)]; exact c2) (tab (fun y => c2 y.1))
theorem jm_minor (h : jMM m ad M0 (s15 S f) M) (hC : jEnc C (S.1 0)) (hW : jWf C) (hN : 100 < N) {d c r k cs : Nat} (hd : d = 1 ∨ d = 2) (hc : c < 3) (hr : r < 2 ^ cRows C d) (hcs : cs < 64) (hk : sN r = k) (hk2 : sN cs = k) (hk5 : k ≤ 5) (hok : ∀ j, cs.testBit j = true → j < cCols C d ∨ (d = 2 ∧ j = 4)) :
    jo (jf_X1_minor N m (nI d) (nI r) (nI cs) (nI c)) M (fun x M' => x = jI (mn k (fun a b => cWd C d c (nt r a) (nt cs b))) ∧ ∃ g, jMM m ad M0 (s15 S g) M') := by
  have hr6 := cRows_le hW (d := d)
  have hr64 : r < 64 := Nat.lt_of_lt_of_le hr (Nat.pow_le_pow_right (n := 2) (by decide) hr6)
  unfold jf_X1_minor
  refine jo_eq (jr_ones hr64 (by omega)) ?_
  rw [hk]
  have kk : k * k ≤ 25 := Nat.mul_le_mul hk5 hk5
  refine jo_bd (jo_mono (jo_up (k * k) (fun q z M' => z = nI q ∧ ∃ g, jMM m ad M0 (s15 S g) M' ∧ ∀ a b, a < k → b < k → a * k + b < q → g (6 * a + b) = jI (cWd C d c (nt r a) (nt cs b))) (fun _ M' => ∃ g, jMM m ad M0 (s15 S g) M' ∧ ∀ a b, a < k → b < k → g (6 * a + b) = jI (cWd C d c (nt r a) (nt cs b))) ?_ ?_ N 0 _ M ⟨rfl, f, h, fun a b _ _ hq => absurd hq (Nat.not_lt_zero _)⟩ (Nat.zero_le _) (by omega)) ?_)
  · rintro q z M' hq ⟨rfl, g, h', e⟩
    have k0 : 0 < k := by
      rcases Nat.eq_zero_or_pos k with y | y
      · subst y; omega
      · exact y
    have qa : q / k < k := Nat.div_lt_of_lt_mul hq
    have qb : q % k < k := Nat.mod_lt _ k0
    have kz : ¬ nI k = 0 := by
      show ¬ nI k = nI 0
      rw [nI_eq (by omega) (by omega)]; omega
    unfold jf_X1_minor_L9
    rw [nI_mul]
    refine jo_f (by rw [nI_leI (by omega) (by omega)]; omega) (jo_rd (jM_fR h' (k := 15) rfl) (jo_ck kz (jo_ck kz (jo_ck kz ?_))))
    rw [nI_rem (by omega) k0 (by omega), nI_div (by omega) k0 (by omega)]
    refine jo_eq (jr_nth hr64 (by omega) (by omega)) (jo_ck kz (jo_eq (jr_nth hcs (by omega) (by omega)) (jo_rd (jM_cl h') ?_)))
    have ri : nt r (q / k) < cRows C d := nt_lt hr hr6 (by omega)
    have cj := hok (nt cs (q % k)) ((nt_ok cs hcs (q % k) (by have := sN_le cs hcs; omega) (by omega)).2.2.1)
    refine jo_eq (jr_wide h' hC hW hN hd hc ri cj) ?_
    have rg := cWd_rg hW hc ri cj
    refine jM_st15 h' (j := 6 * (q / k) + q % k) ix6 (by omega) (fun M1 h1 => jo_ret ⟨by rw [nI_1], _, h1, fun a b ha hb hl => ?_⟩)
    rw [upL, iI_l (by omega) (by omega)]
    by_cases ee : a = q / k ∧ b = q % k
    · rw [if_pos (by rw [ee.1, ee.2]), ee.1, ee.2]
    · rw [if_neg (by rw [ij6 (by omega) (by omega)]; exact ee)]
      refine e a b ha hb ?_
      refine Nat.lt_of_le_of_ne (by omega) (fun eq => ee ?_)
      have : q = b + a * k := by omega
      subst this
      rw [Nat.add_mul_div_right _ _ k0, Nat.add_mul_mod_self_right, Nat.div_eq_of_lt hb, Nat.mod_eq_of_lt hb]
      exact ⟨by omega, rfl⟩
  · rintro z M' ⟨rfl, g, h', e⟩
    unfold jf_X1_minor_L9
    rw [nI_mul]
    refine jo_t (by rw [nI_leI (by omega) (by omega)]; omega) (jo_ret ⟨g, h', fun a b ha hb => e a b ha hb ?_⟩)
    have : a * k + k ≤ k * k := by
      have := Nat.mul_le_mul_right k (show a + 1 ≤ k by omega)
      rw [Nat.succ_mul] at this
      exact this
    omega
  · rintro _ M' ⟨g, h', e⟩
    unfold jf_X1_minor_k9_70
    refine jo_rd (jM_cl h') (jo_bd (jo_mono (jm_det (n := k) (A := fun a b => cWd C d c (nt r a) (nt cs b)) (Mx := 9) h' (by omega) hN e (fun a b ha hb => ?_) (jBd_59 hk5)) ?_))
    · exact cWd_rg hW hc (nt_lt hr hr6 (by omega)) (hok _ (nt_ok cs hcs b (by omega) (by omega)).2.2.1)
    · rintro x M1 ⟨rfl, g1, h1⟩
      exact jo_ret ⟨rfl, g1, h1⟩
end MM
