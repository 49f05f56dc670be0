/-! PLAIN LAW, 93.m: what numbers leave by a prime; inverses -/
def isP (p : Nat) : Prop := p = 2 ∨ p = 3 ∨ p = 5 ∨ p = 7
theorem jI_trm {v p : Int} (hv : -9223372036854775808 ≤ v ∧ v < 9223372036854775808) (hp : -9223372036854775808 ≤ p ∧ p < 9223372036854775808) : jI v - jI v / jI p * jI p = jI (v.tmod p) := by
  rw [jI_tdv hv hp, jI_mul, jI_sub, tdiv_rest]
theorem tmod_emod {v p : Int} (hp : 0 < p) : (v.tmod p + p).tmod p = v % p := by
  have h1 : 0 ≤ v.tmod p + p := by
    have := tmod_lt' (a := v) (p := p) (by omega)
    omega
  rw [Int.tmod_eq_emod_of_nonneg h1, Int.add_emod_right]
  by_cases c : 0 ≤ v
  · rw [Int.tmod_eq_emod_of_nonneg c, Int.emod_emod]
  · have e : v.tmod p = -((-v) % p) := by
      have := Int.neg_tmod (a := -v) (b := p)
      rw [Int.neg_neg] at this
      rw [this, Int.tmod_eq_emod_of_nonneg (by omega)]
    rw [e]
    have h2 : v = -(p * ((-v) / p) + (-v) % p) := by have := Int.mul_ediv_add_emod (-v) p; omega
    have h3 : v % p = (-((-v) % p) + p * -((-v) / p)) % p := by
      congr 1
      rw [Int.mul_neg]
      omega
    rw [h3, Int.add_mul_emod_self_left]
section PR
variable {N : Nat} {M : Mem}
theorem pl_l {p : Nat} (hp : isP p) : (nI p).toInt64 = jI (p : Int) := by
  rw [nI_iI, iI_l (by unfold isP at hp; omega) (by unfold isP at hp; omega)]
theorem pl_0 {p : Nat} (hp : isP p) : ¬ jI (p : Int) = 0 := by
  rw [jI_0 (by unfold isP at hp; omega)]
  unfold isP at hp; omega
/-- what v leaves by p, as both programs reckon it -/
theorem jl_left {v : Int} {p : Nat} (hp : isP p) (hv : v.natAbs < 4611686018427387904) : ((jI v - jI v / jI (p : Int) * jI (p : Int)) + jI (p : Int)) - ((jI v - jI v / jI (p : Int) * jI (p : Int)) + jI (p : Int)) / jI (p : Int) * jI (p : Int) = jI (v % (p : Int)) := by
  have hp' : 2 ≤ p ∧ p ≤ 7 := by unfold isP at hp; omega
  have := tmod_lt' (a := v) (p := (p : Int)) (by omega)
  rw [jI_trm (by omega) (by omega), jI_add, jI_trm (by omega) (by omega), tmod_emod (by omega)]
theorem jx_leftBy {v : Int} {p : Nat} (hp : isP p) (hv : v.natAbs < 4611686018427387904) : (jf_X11_leftBy N (jI v) (nI p)).1 M = some (jI (v % (p : Int)), M) := by
  refine jo_out ?_
  unfold jf_X11_leftBy
  rw [pl_l hp]
  refine jo_ck (pl_0 hp) (jo_ck (pl_0 hp) (jo_lt ?_))
  rw [jl_left hp hv]
  exact jo_ret ⟨rfl, rfl⟩
/-- the inverse: the first of 1, 2, .. -/
def ivR (p v : Nat) : Nat → Nat → Nat
  | 0, i => i
  | g + 1, i => if (i * v) % p = 1 then i else ivR p v g (i + 1)
def ivO (p v : Nat) : Nat → Nat → Bool
  | 0, _ => false
  | g + 1, i => if (i * v) % p = 1 then true else ivO p v g (i + 1)
def iv (p v : Nat) : Nat := ivR p v 7 1
theorem iv_ok : ∀ p, p < 8 → isP p → ∀ v, v < p → v ≠ 0 → ivO p v 7 1 = true ∧ iv p v < 8 := by
  unfold isP
  decide +kernel
theorem jl_inv {body : Int64 → jm_P (Int64 ⊕ Int64)} {p v : Nat} (hb : ∀ i : Nat, i < 9 → (body (jI (i : Int))).1 M = some (if (i * v) % p = 1 then .inr (jI (i : Int)) else .inl (jI ((i + 1 : Nat) : Int)), M)) : ∀ (g i N' : Nat), ivO p v g i = true → i + g < 10 → g < N' → jo (jm_it body N' (jI (i : Int))) M (fun r M' => r = jI ((ivR p v g i : Nat) : Int) ∧ M' = M) := by
  intro g
  induction g with
  | zero => intro i N' h; cases h
  | succ g ih =>
    intro i N' h hi hN
    obtain ⟨N', rfl⟩ : ∃ q, N' = q + 1 := ⟨N' - 1, by omega⟩
    have st := hb i (by omega)
    unfold ivO at h
    unfold ivR
    by_cases c : (i * v) % p = 1
    · rw [if_pos c] at st ⊢
      exact jo_its (jo_of st ⟨rfl, rfl⟩)
    · rw [if_neg c] at st h ⊢
      exact jo_its (jo_of st (ih (i + 1) N' h (by omega) (by omega)))
theorem jl_invB {p v i : Nat} (hp : isP p) (hv : v < p) (hi : i < 9) : (jI (i : Int) * jI (v : Int)) - (jI (i : Int) * jI (v : Int)) / jI (p : Int) * jI (p : Int) = jI (((i * v) % p : Nat) : Int) := by
  have hp' : 2 ≤ p ∧ p ≤ 7 := by unfold isP at hp; omega
  have hm : i * v ≤ 9 * 7 := Nat.mul_le_mul (by omega) (by omega)
  rw [jI_mul]
  have e : (i : Int) * (v : Int) = ((i * v : Nat) : Int) := by rw [Int.natCast_mul]
  rw [e, jI_nat_rem (by omega) (by omega)]
theorem jx_inverse {p v : Nat} (hp : isP p) (hv : v < p) (h0 : v ≠ 0) (hN : 10 < N) : (jf_X11_inverse N (jI (v : Int)) (nI p)).1 M = some (jI ((iv p v : Nat) : Int), M) := by
  have hp' : 2 ≤ p ∧ p ≤ 7 := by unfold isP at hp; omega
  refine jo_out ?_
  unfold jf_X11_inverse jf_X11_inverse_k2_20
  refine jo_bd (jo_mono (jl_inv (p := p) (v := v) (fun i hi => ?_) 7 1 N (iv_ok p (by omega) hp v hv h0).1 (by omega) (by omega)) ?_)
  · refine jo_out ?_
    unfold jf_X11_inverse_L2
    rw [pl_l hp, jl_invB hp hv hi]
    refine jo_ck (pl_0 hp) ?_
    have hm := Nat.mod_lt (i * v) (show 0 < p by omega)
    by_cases c : (i * v) % p = 1
    · rw [if_pos c]
      exact jo_t (by rw [c]; rfl) (jo_ret ⟨rfl, rfl⟩)
    · rw [if_neg c]
      refine jo_f (show ¬ jI _ = jI 1 by rw [jI_eqI (by omega) (by omega)]; omega) (jo_ret ⟨?_, rfl⟩)
      show Sum.inl (jI (i : Int) + jI 1) = _
      rw [jI_add]
      rfl
  · rintro r M1 ⟨rfl, rfl⟩
    exact jo_ret ⟨rfl, rfl⟩
theorem jr_inverse {p v : Nat} (hp : isP p) (hv : v < p) (h0 : v ≠ 0) (hN : 10 < N) : (jf_X1_inverse N (jI (v : Int)) (nI p)).1 M = some (jI ((iv p v : Nat) : Int), M) := by
  have hp' : 2 ≤ p ∧ p ≤ 7 := by unfold isP at hp; omega
  refine jo_out ?_
  unfold jf_X1_inverse jf_X1_inverse_k2_20
  refine jo_bd (jo_mono (jl_inv (p := p) (v := v) (fun i hi => ?_) 7 1 N (iv_ok p (by omega) hp v hv h0).1 (by omega) (by omega)) ?_)
  · refine jo_out ?_
    unfold jf_X1_inverse_L2
    rw [pl_l hp, jl_invB hp hv hi]
    refine jo_ck (pl_0 hp) ?_
    have hm := Nat.mod_lt (i * v) (show 0 < p by omega)
    by_cases c : (i * v) % p = 1
    · rw [if_pos c]
      exact jo_t (by rw [c]; rfl) (jo_ret ⟨rfl, rfl⟩)
    · rw [if_neg c]
      refine jo_f (show ¬ jI _ = jI 1 by rw [jI_eqI (by omega) (by omega)]; omega) (jo_ret ⟨?_, rfl⟩)
      show Sum.inl (jI (i : Int) + jI 1) = _
      rw [jI_add]
      rfl
  · rintro r M1 ⟨rfl, rfl⟩
    exact jo_ret ⟨rfl, rfl⟩
end PR
/-! the rank by a prime, as data -/
/-- one elimination: numbers below p -/
def elm (p : Nat) (G : Nat → Nat → Nat) (r j : Nat) : Nat → Nat → Nat := fun k c => if r < k then (((G k c : Int) - ((G k j * iv p (G r j)) % p : Nat) * (G r c : Int)) % (p : Int)).toNat else G k c
/-- the first row from r on that is not 0 in column j; R: none -/
def fsr (G : Nat → Nat → Nat) (R j : Nat) : Nat → Nat → Nat
  | 0, i => i
  | g + 1, i => if i < R ∧ G i j = 0 then fsr G R j g (i + 1) else i
def swn (G : Nat → Nat → Nat) (s t : Nat) : Nat → Nat → Nat := fun i j => G (if i = s then t else if i = t then s else i) j
def rkB (p R : Nat) : Nat → Nat → Nat → (Nat → Nat → Nat) → Nat
  | 0, _, r, _ => r
  | n + 1, j, r, G => if fsr G R j 7 r < R then rkB p R n (j + 1) (r + 1) (elm p (swn G (fsr G R j 7 r) r) r j) else rkB p R n (j + 1) r G
theorem fsr_cg {G H : Nat → Nat → Nat} {R j : Nat} (e : ∀ i, i < R → G i j = H i j) : ∀ (g i : Nat), fsr G R j g i = fsr H R j g i := by
  intro g
  induction g with
  | zero => intro i; rfl
  | succ g ih =>
    intro i
    unfold fsr
    by_cases c : i < R
    · rw [e i c, ih]
    · rw [if_neg (fun y => c y.1), if_neg (fun y => c y.1)]
theorem fsr_ge {G : Nat → Nat → Nat} {R j : Nat} : ∀ (g i : Nat), i ≤ fsr G R j g i := by
  intro g
  induction g with
  | zero => intro i; exact Nat.le_refl _
  | succ g ih =>
    intro i
    unfold fsr
    split
    · exact Nat.le_trans (Nat.le_succ i) (ih (i + 1))
    · exact Nat.le_refl _
theorem fsr_le {G : Nat → Nat → Nat} {R j : Nat} : ∀ (g i : Nat), i ≤ R → fsr G R j g i ≤ R := by
  intro g
  induction g with
  | zero => intro i h; exact h
  | succ g ih =>
    intro i h
    unfold fsr
    split
    · exact ih (i + 1) (by omega)
    · exact h
theorem rkB_cg {p R : Nat} : ∀ (n j r : Nat) (G H : Nat → Nat → Nat), r ≤ R → (∀ i c, i < R → j ≤ c → c < j + n → G i c = H i c) → rkB p R n j r G = rkB p R n j r H := by
  intro n
  induction n with
  | zero => intro j r G H _ _; rfl
  | succ n ih =>
    intro j r G H hr e
    have ef : fsr G R j 7 r = fsr H R j 7 r := fsr_cg (fun i hi => e i j hi (Nat.le_refl _) (by omega)) 7 r
    unfold rkB
    rw [← ef]
    by_cases c : fsr G R j 7 r < R
    · rw [if_pos c, if_pos c]
      have hge := fsr_ge (G := G) (R := R) (j := j) 7 r
      refine ih (j + 1) (r + 1) _ _ (by omega) (fun i q hi h1 h2 => ?_)
      have sw : ∀ i c', i < R → j ≤ c' → c' < j + (n + 1) → swn G (fsr G R j 7 r) r i c' = swn H (fsr G R j 7 r) r i c' := fun i c' hi a b => e _ c' (sw_lt c (by omega) hi) a b
      unfold elm
      rw [sw i q hi (by omega) (by omega), sw i j hi (by omega) (by omega), sw r j (by omega) (by omega) (by omega), sw r q (by omega) (by omega) (by omega)]
    · rw [if_neg c, if_neg c]
      exact ih (j + 1) r G H hr (fun i q hi h1 h2 => e i q hi (by omega) (by omega))
