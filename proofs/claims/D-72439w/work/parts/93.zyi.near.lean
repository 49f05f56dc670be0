/-! SIZES, 93.zyi: near 1 and near 0 (no program in sight) -/
section NR
variable {C : CX}
theorem bdM_dv {n R K' : Nat} {A : Nat → Nat → Int} (h : dv n R K' A 0) : bdM n R K' 0 A 0 := fun σ τ hs ht => by
  have := Int.zero_dvd.mp (h σ τ (fun a ha => (hs a ha).2) (fun b hb => (ht b hb).2))
  rw [this]; exact Nat.zero_le _
/-- all points together come to nothing -/
theorem one_5 (hW : jWf C) : dv 5 (cP C) (cE C) (cOne C) 0 := by
  have h5 := hW.1
  by_cases c : cP C < 5
  · exact dv_big (.inl c)
  have p5 : cP C = 5 := by omega
  refine dv_inc.mpr fun σ τ i1 i2 i3 i4 => ?_
  rw [p5] at i2
  rw [mn_rsum (by decide) (fun b hb => ?_)]
  · exact Int.dvd_refl 0
  · have ed := hW.2.2.2.1 _ (i4 b hb)
    rw [jsum_cg (g := fun a => cOne C a (τ b)) (fun a ha => by rw [inc_id i1 i2 a ha])]
    unfold cOne
    generalize cEd C (τ b) 1 = x at ed ⊢
    generalize cEd C (τ b) 0 = y at ed ⊢
    have key : ∀ x, x < 5 → ∀ y, y < 5 → jsum 5 (fun a => (if x = a then (1 : Int) else 0) - (if y = a then 1 else 0)) = 0 := by decide
    exact key x (by omega) y (by omega)
theorem near1_eq {i j : Nat} : cNear C 1 i j = jsum (cP C) (fun p => cOne C p i * cOne C p j) := by
  unfold cNear
  rw [if_pos rfl]
theorem one_col (hW : jWf C) {e : Nat} : nsm (cP C) (fun p => (cOne C p e).natAbs) ≤ 2 := by
  have one : ∀ v : Nat, nsm (cP C) (fun p => if v = p then 1 else 0) ≤ 1 := fun v => nsm_1 (fun k _ => by split <;> omega) (fun a c _ _ ha hc => by
    by_cases x : v = a
    · by_cases y : v = c
      · omega
      · rw [if_neg y] at hc; exact absurd rfl hc
    · rw [if_neg x] at ha; exact absurd rfl ha)
  have h := nsm_le (n := cP C) (f := fun p => (cOne C p e).natAbs) (g := fun p => (if cEd C e 1 = p then 1 else 0) + (if cEd C e 0 = p then 1 else 0)) fun p _ => by
    unfold cOne
    split <;> split <;> decide
  rw [nsm_add] at h
  have := one (cEd C e 1)
  have := one (cEd C e 0)
  omega
theorem small_near1 (hW : jWf C) : smallA (cE C) (cE C) (cNear C 1) := by
  have hP := hW.1
  have hE := hW.2.1
  have h : ∀ n, bdM n (cE C) (cE C) 0 (cNear C 1) (2 ^ n) := fun n σ τ _ _ => by
    rw [mn_cg (A := fun a b => cNear C 1 (σ a) (τ b)) (B := fun a b => jsum (cP C) (fun p => cOne C p (σ a) * cOne C p (τ b))) (fun a b _ _ => near1_eq)]
    have := mn_mulB (k := n) (K := cP C) (A := fun a p => cOne C p (σ a)) (B := fun p b => cOne C p (τ b)) (S := fun _ => 2) (Mx := 1) (fun b _ => one_col hW) (fun τ' _ => by
      rw [← mn_tr]
      exact mn_one)
    rw [Nat.mul_one, npr_c] at this
    exact this
  have h5 : bdM 5 (cE C) (cE C) 0 (cNear C 1) 0 := bdM_dv (dv_cg (fun i j _ _ => near1_eq.symm) (dv_mul (A := fun i p => cOne C p i) (dv_tr (one_5 hW))))
  refine smallA_4 (e := (cE C - 1 - 3) + (cE C - 1 - 3)) (m := 6) (q := 2) (a := 4) (b := 8) (c := 16) (E := 2) rfl h5 (h 4) (h 3) (h 2) (h 1) (lsB_of (h 1)) (by decide) (by decide) ?_
  have : (cE C - 1 - 3) + (cE C - 1 - 3) = 0 ∨ (cE C - 1 - 3) + (cE C - 1 - 3) = 2 ∨ (cE C - 1 - 3) + (cE C - 1 - 3) = 4 := by omega
  rcases this with e | e | e <;> rw [e] <;> decide +kernel
/-- minors of size 4 come to nothing: the first stage has the potential -/
theorem smallA_3 {R K' m q a b E : Nat} {A : Nat → Nat → Int} (h4 : bdM 4 R K' 0 A 0) (h3 : bdM 3 R K' 0 A b) (h2 : bdM 2 R K' 0 A a) (h1 : bdM 1 R K' 0 A E) (hq : lsB R K' 0 A q) (hqm : q ≤ 2 ^ m) (hE : E ≤ a + q) (hok : a + (4 * (m + 1) + 1) * (b * (2 * (q + 1)) ^ ((R - 3) + (K' - 3))) + q < 9223372036854775808) : smallA R K' A := by
  intro F0 hF k F hr i j hij
  have e0 := inn_ag hF
  have w := hs_log (Kc := b * (2 * (q + 1)) ^ ((R - 3) + (K' - 3))) hqm
  have e2 : (4 * (m + 1) + 1) * (b * (2 * (q + 1)) ^ ((R - 3) + (K' - 3))) = 4 * (b * (2 * (q + 1)) ^ ((R - 3) + (K' - 3))) * (m + 1) + b * (2 * (q + 1)) ^ ((R - 3) + (K' - 3)) := by
    rw [Nat.add_mul, Nat.one_mul, Nat.mul_right_comm]
  rw [e2] at hok
  have hq' : lsB R K' 0 F0 q := by
    rcases hq with z | ⟨x, y, u, v, w⟩
    · exact .inl fun x y h => by rw [← e0 x y h]; exact z x y h
    · exact .inr ⟨x, y, u, by rw [← e0 x y u]; exact v, by rw [← e0 x y u]; exact w⟩
  have h := P3_of (k := 0) (w := 2 * (q + 1)) (bdM_cg e0 h4) (bdM_cg e0 h3) (bdM_cg e0 h2) hq' (by omega) (by omega) (a + 4 * (b * (2 * (q + 1)) ^ ((R - 3) + (K' - 3))) * (m + 1)) q (by
    rw [Nat.sub_zero, Nat.sub_zero]; omega) (Nat.le_refl _) (bdM_mono (bdM_cg e0 h1) (by omega))
  rw [Nat.sub_zero, Nat.sub_zero] at h
  have := hr (PP3 R K' _ _ _ _) (.inl h) PP3_clo
  exact PP3_small this (by omega) (by omega) i j hij
theorem am4 {x y z w s : Nat} (h : x + y + (z + w) ≤ 2 * s) : 16 * (x * y * (z * w)) ≤ s ^ 4 := by
  have q2 : ∀ a b : Nat, 4 * (a * b) ≤ (a + b) * (a + b) := fun a b => by
    rcases Nat.le_total a b with c | c
    · obtain ⟨d, rfl⟩ : ∃ d, b = a + d := ⟨b - a, by omega⟩
      have e : (a + (a + d)) * (a + (a + d)) = 4 * (a * (a + d)) + d * d := by
        simp only [Nat.add_mul, Nat.mul_add, Nat.mul_comm d a]; omega
      omega
    · obtain ⟨d, rfl⟩ : ∃ d, a = b + d := ⟨a - b, by omega⟩
      have e : (b + d + b) * (b + d + b) = 4 * ((b + d) * b) + d * d := by
        simp only [Nat.add_mul, Nat.mul_add, Nat.mul_comm d b]; omega
      omega
  have h1 := q2 x y
  have h2 := q2 z w
  have h3 := q2 (x + y) (z + w)
  have h4 : (x + y) * (z + w) ≤ s * s := by
    have : (x + y + (z + w)) * (x + y + (z + w)) ≤ (2 * s) * (2 * s) := Nat.mul_le_mul h h
    have e : (2 * s) * (2 * s) = 4 * (s * s) := by rw [Nat.mul_mul_mul_comm]
    omega
  have h5 : (4 * (x * y)) * (4 * (z * w)) ≤ ((x + y) * (x + y)) * ((z + w) * (z + w)) := Nat.mul_le_mul h1 h2
  have e5 : (4 * (x * y)) * (4 * (z * w)) = 16 * (x * y * (z * w)) := by rw [Nat.mul_mul_mul_comm]
  have e6 : ((x + y) * (x + y)) * ((z + w) * (z + w)) = ((x + y) * (z + w)) * ((x + y) * (z + w)) := Nat.mul_mul_mul_comm _ _ _ _
  have h6 : ((x + y) * (z + w)) * ((x + y) * (z + w)) ≤ (s * s) * (s * s) := Nat.mul_le_mul h4 h4
  have e7 : s ^ 4 = (s * s) * (s * s) := by
    rw [show (4 : Nat) = 2 + 2 by rfl, Nat.pow_add, Nat.pow_two]
  omega
end NR
