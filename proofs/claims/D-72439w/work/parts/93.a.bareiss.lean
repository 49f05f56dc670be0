/-! PLAIN LAW, 93.a: the determinant by divisions: what one step does; the model's -/
theorem jI_tdv {a b : Int} (ha : -9223372036854775808 ≤ a ∧ a < 9223372036854775808) (hb : -9223372036854775808 ≤ b ∧ b < 9223372036854775808) : jI a / jI b = jI (a.tdiv b) := by
  unfold jI
  rw [Int64.ofInt_tdiv]
  · exact ha.1
  · show a ≤ 9223372036854775807; omega
  · exact hb.1
  · show b ≤ 9223372036854775807; omega
theorem jI_0 {a : Int} (ha : -9223372036854775808 ≤ a ∧ a < 9223372036854775808) : jI a = (0 : Int64) ↔ a = 0 := by
  have := jI_eqI ha (b := 0) (by omega)
  exact this
/-- two rows change places -/
def swr (A : Nat → Nat → Int) (s t : Nat) : Nat → Nat → Int := fun i j => A (if i = s then t else if i = t then s else i) j
theorem mn_swr {n : Nat} {A : Nat → Nat → Int} {s t : Nat} (hs : s < n) (ht : t < n) (hne : s ≠ t) : mn n (swr A s t) = - mn n A := by
  have f : ∀ x y : Nat → Int, mn n (rwd (rwd A s (fun j => x j + y j)) t (fun j => x j + y j)) = 0 := fun x y => mn_eq2 hs ht hne (fun j _ => by unfold rwd; rw [if_neg hne, if_pos rfl, if_pos rfl])
  have g : ∀ x : Nat → Int, mn n (rwd (rwd A s x) t x) = 0 := fun x => mn_eq2 hs ht hne (fun j _ => by unfold rwd; rw [if_neg hne, if_pos rfl, if_pos rfl])
  have l1 : ∀ w x y : Nat → Int, mn n (rwd (rwd A s (fun j => x j + y j)) t w) = mn n (rwd (rwd A s x) t w) + mn n (rwd (rwd A s y) t w) := by
    intro w x y
    have c : ∀ z : Nat → Int, mn n (rwd (rwd A s z) t w) = mn n (rwd (rwd A t w) s z) := fun z => mn_cg (fun i j _ _ => by
      unfold rwd
      by_cases c1 : i = s
      · subst c1; rw [if_neg hne, if_pos rfl, if_pos rfl]
      · by_cases c2 : i = t
        · subst c2; rw [if_pos rfl, if_neg c1, if_pos rfl]
        · rw [if_neg c2, if_neg c1, if_neg c1, if_neg c2])
    rw [c, c, c]
    have := mn_row (n := n) (A := rwd A t w) (t := s) (u := x) (v := y) (x := 1) (y := 1) hs
    simp only [Int.one_mul] at this
    exact this
  have l2 : ∀ w x y : Nat → Int, mn n (rwd (rwd A s w) t (fun j => x j + y j)) = mn n (rwd (rwd A s w) t x) + mn n (rwd (rwd A s w) t y) := by
    intro w x y
    have := mn_row (n := n) (A := rwd A s w) (t := t) (u := x) (v := y) (x := 1) (y := 1) ht
    simp only [Int.one_mul] at this
    exact this
  have e := f (A s) (A t)
  rw [l1, l2, l2, g, g] at e
  have e1 : mn n (rwd (rwd A s (A s)) t (A t)) = mn n A := mn_cg (fun i j _ _ => by
    unfold rwd
    by_cases c2 : i = t
    · rw [if_pos c2, c2]
    · rw [if_neg c2]
      by_cases c1 : i = s
      · rw [if_pos c1, c1]
      · rw [if_neg c1])
  have e2 : mn n (rwd (rwd A s (A t)) t (A s)) = mn n (swr A s t) := mn_cg (fun i j _ _ => by
    unfold rwd swr
    by_cases c1 : i = s
    · subst c1; rw [if_neg hne, if_pos rfl, if_pos rfl]
    · by_cases c2 : i = t
      · subst c2; rw [if_pos rfl, if_neg c1, if_pos rfl]
      · rw [if_neg c2, if_neg c1, if_neg c1, if_neg c2])
  rw [e1, e2] at e
  omega
/-- no pivot: the determinant is 0 -/
theorem mn_nopiv : ∀ {k n : Nat} {B : Nat → Nat → Int}, k < n → (∀ m, 1 ≤ m → m ≤ k → mn m B ≠ 0) → (∀ i, k ≤ i → i < n → bm k B i k = 0) → mn n B = 0 := by
  intro k
  induction k with
  | zero =>
    intro n B hk _ hz
    obtain ⟨n, rfl⟩ : ∃ m, n = m + 1 := ⟨n - 1, by omega⟩
    rw [mn_succ]
    refine ds_0 (fun i hi => ?_)
    have := hz i (Nat.zero_le _) hi
    have e : bm 0 B i 0 = B i 0 := by simp [bm, mn, jsum, sgn, dk]
    rw [← e, this]; omega
  | succ k ih =>
    intro n B hk h hz
    obtain ⟨n, rfl⟩ : ∃ m, n = m + 1 := ⟨n - 1, by omega⟩
    have h1 : mn 1 B = B 0 0 := by simp [mn, jsum, sgn, dk]
    have h0 : B 0 0 ≠ 0 := by rw [← h1]; exact h 1 (by omega) (by omega)
    have z := ih (n := n) (B := chi B) (by omega) (fun m m1 m2 e => by
      have := mn_chi (n := m) (A := B)
      rw [e, Int.mul_zero] at this
      exact Int.mul_ne_zero (pow_ne h0 m) (h (m + 1) (by omega) (by omega)) this.symm) (fun i i1 i2 => by
      rw [bm_chi h0, hz (i + 1) (by omega) (by omega), Int.mul_zero])
    have e := mn_chi (n := n) (A := B)
    rw [z, Int.mul_zero] at e
    exact (Int.mul_eq_zero.mp e.symm).resolve_left (pow_ne h0 n)
theorem bm_last {k : Nat} {B : Nat → Nat → Int} : bm k B k k = mn (k + 1) B := mn_cg (fun a b ha hb => by
  have e1 : (if a < k then a else k) = a := by split <;> omega
  have e2 : (if b < k then b else k) = b := by split <;> omega
  rw [e1, e2])
theorem bm_0 {B : Nat → Nat → Int} {i j : Nat} : bm 0 B i j = B i j := by simp [bm, mn, jsum, sgn, dk]
theorem mn_swlow {m s t : Nat} {B : Nat → Nat → Int} (h1 : m ≤ s) (h2 : m ≤ t) : mn m (swr B s t) = mn m B := mn_cg (fun i j hi _ => by unfold swr; rw [if_neg (by omega), if_neg (by omega)])
theorem bm_sw {k s t i j : Nat} {B : Nat → Nat → Int} (h1 : k ≤ s) (h2 : k ≤ t) (hi : k ≤ i) : bm k (swr B s t) i j = bm k B (if i = s then t else if i = t then s else i) j := mn_cg (fun a b _ _ => by
  unfold swr
  by_cases ca : a < k
  · rw [if_pos ca, if_pos ca, if_neg (by omega), if_neg (by omega)]
  · rw [if_neg ca, if_neg ca])
/-- one number of one step -/
theorem bm_step {k i j : Nat} {B : Nat → Nat → Int} (hz : ∀ m, 1 ≤ m → m ≤ k → mn m B ≠ 0) (hi : k ≤ i) (hj : k ≤ j) : (bm k B i j * bm k B k k - bm k B i k * bm k B k j).tdiv (mn k B) = bm (k + 1) B i j := by
  have s := (bm_syl hz).resolve_right (fun y => y ⟨hi, hj⟩)
  rw [if_pos ⟨hi, hj⟩] at s
  rw [s]
  have h0 : mn k B ≠ 0 := by
    by_cases c : k = 0
    · subst c; intro e; cases e
    · exact hz k (by omega) (Nat.le_refl _)
  exact Int.mul_tdiv_cancel_left _ h0
/-- the bounds that a run of n steps needs -/
def jBd (n Mx : Nat) : Prop := (∀ k, k + 1 < n → 2 * ((fct (k + 1) * Mx ^ (k + 1)) * (fct (k + 1) * Mx ^ (k + 1))) < 9223372036854775808) ∧ ∀ k, k < n → fct (k + 1) * Mx ^ (k + 1) < 9223372036854775808
theorem rg_of {x : Int} {b : Nat} (h : x.natAbs ≤ b) (hb : b < 9223372036854775808) : -9223372036854775808 ≤ x ∧ x < 9223372036854775808 := by omega
theorem prod_rg {a b c d : Int} {w : Nat} (ha : a.natAbs ≤ w) (hb : b.natAbs ≤ w) (hc : c.natAbs ≤ w) (hd : d.natAbs ≤ w) (hw : 2 * (w * w) < 9223372036854775808) : -9223372036854775808 ≤ a * b - c * d ∧ a * b - c * d < 9223372036854775808 := by
  have h1 : (a * b).natAbs ≤ w * w := by rw [Int.natAbs_mul]; exact Nat.mul_le_mul ha hb
  have h2 : (c * d).natAbs ≤ w * w := by rw [Int.natAbs_mul]; exact Nat.mul_le_mul hc hd
  omega
