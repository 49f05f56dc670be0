/-! PLAIN LAW, 93.zj: how great the numbers of parts are (no program in sight) -/
def ptPD (d : Nat) : Nat := if d = 1 then 104976 else 84934656
def ptPK (d : Nat) : Nat := if d = 1 then 314928 else 1146617856
def ptPA (d : Nat) : Nat := if d = 1 then 3779136 else 18345885696
section PU
variable {C : CX}
theorem cCh_abs (hW : jWf C) {ch e : Nat} (hc : ch < 3) (he : e < cE C) : (cCh C ch e).natAbs ≤ 9 := by
  have := hW.2.2.2.2.2 ch e hc he
  omega
theorem mass2 (hW : jWf C) {f : Nat} (hf : f < cF C) : nsm (cE C) (fun e => (cTwo C e f).natAbs) ≤ 4 := two_mass hW (k := cE C) (σ := fun e => e) (fun _ _ _ _ h => h) hf
theorem ptG2_mul {i j : Nat} : ptG C 2 i j = jsum (cE C) (fun e => cTwo C e i * (cTwo C e j * ptW C e)) := by
  unfold ptG
  rw [if_neg (by decide)]
  exact jsum_cg fun e _ => Int.mul_assoc _ _ _
theorem ptG1_mul {i j : Nat} : ptG C 1 i j = jsum (cE C) (fun e => cOne C i e * ((cEd C e 2 : Int) * cOne C j e)) := by
  unfold ptG
  rw [if_pos rfl]
  show jsum (cE C) (fun k => cOne C i k * (cEd C k 2 : Int) * cOne C j k) = _
  exact jsum_cg fun e _ => Int.mul_assoc _ _ _
theorem ptR2_mul {ch j : Nat} : ptR C 2 ch j = jsum (cE C) (fun e => cTwo C e j * (cCh C ch e * ptW C e)) := by
  unfold ptR
  rw [if_neg (by decide)]
  exact jsum_cg fun e _ => Int.mul_assoc _ _ _
theorem ptR1_mul {ch j : Nat} : ptR C 1 ch j = jsum (cE C) (fun e => cOne C j e * cCh C ch e) := by
  unfold ptR
  rw [if_pos rfl]
  exact jsum_cg fun e _ => Int.mul_comm _ _
theorem mass2W (hW : jWf C) {f : Nat} (hf : f < cF C) : nsm (cE C) (fun e => (cTwo C e f * ptW C e).natAbs) ≤ 24 := by
  have h : nsm (cE C) (fun e => (cTwo C e f * ptW C e).natAbs) ≤ nsm (cE C) (fun e => (cTwo C e f).natAbs * 6) := nsm_le fun e he => by
    rw [Int.natAbs_mul]
    exact Nat.mul_le_mul_left _ (by have := ptW_6 hW he; omega)
  rw [nsm_mul] at h
  have := mass2 hW hf
  omega
theorem massC (hW : jWf C) {ch : Nat} (hc : ch < 3) : nsm (cE C) (fun e => (cCh C ch e).natAbs) ≤ 54 ∧ nsm (cE C) (fun e => (cCh C ch e * ptW C e).natAbs) ≤ 324 := by
  have h6 := hW.2.1
  have h1 := nsm_c (n := cE C) (f := fun e => (cCh C ch e).natAbs) (x := 9) fun e he => cCh_abs hW hc he
  have h2 := nsm_c (n := cE C) (f := fun e => (cCh C ch e * ptW C e).natAbs) (x := 54) fun e he => by
    rw [Int.natAbs_mul]
    exact Nat.mul_le_mul (cCh_abs hW hc he) (show (ptW C e).natAbs ≤ 6 by have := ptW_6 hW he; omega)
  omega
theorem mass1W (hW : jWf C) {j : Nat} : nsm (cE C) (fun e => ((cEd C e 2 : Int) * cOne C j e).natAbs) ≤ 18 := by
  have h6 := hW.2.1
  have h2 := nsm_c (n := cE C) (f := fun e => ((cEd C e 2 : Int) * cOne C j e).natAbs) (x := 3) fun e he => by
    have := hW.2.2.2.1 e he
    rw [Int.natAbs_mul]
    exact Nat.mul_le_mul (show (cEd C e 2 : Int).natAbs ≤ 3 by omega) (cOne_rg (C := C) (p := j) (e := e))
  omega
theorem npr_4 {n y : Nat} (hn : n ≤ 4) (hy : 0 < y) : npr n (fun _ => y) ≤ y ^ 4 := by
  rw [npr_c]; exact Nat.pow_le_pow_right hy hn
theorem mnA1 {n : Nat} {p : Nat → Nat} {τ : Nat → Nat} : (mn n (fun a b => cOne C (p a) (τ b))).natAbs ≤ 1 := mn_one
theorem mnA2 (hW : jWf C) {n : Nat} {p : Nat → Nat} {τ : Nat → Nat} (hp : ∀ a, a < n → p a < cF C) : (mn n (fun a b => cTwo C (τ b) (p a))).natAbs ≤ 4 ^ n := by
  rw [mn_tr (A := fun a b => cTwo C (τ a) (p b))]
  exact mn_two hW hp
theorem ptD_abs (hW : jWf C) {d : Nat} (hd : d = 1 ∨ d = 2) : (ptD C d).natAbs ≤ ptPD d := by
  have hn := ptn_le hW hd
  rcases hd with rfl | rfl
  · have h := mn_mulB (k := ptn C 1) (K := cE C) (A := fun a e => cOne C (nt (ptS C 1) a) e) (B := fun e b => (cEd C e 2 : Int) * cOne C (nt (ptS C 1) b) e) (S := fun _ => 18) (Mx := 1) (fun b _ => mass1W hW) (fun τ _ => mnA1)
    unfold ptD
    rw [mn_cg (A := ptM C 1) (fun i j _ _ => ptG1_mul)]
    have := npr_4 (y := 18) hn (by decide)
    show _ ≤ 104976
    omega
  · have h := mn_mulB (k := ptn C 2) (K := cE C) (A := fun a e => cTwo C e (nt (ptS C 2) a)) (B := fun e b => cTwo C e (nt (ptS C 2) b) * ptW C e) (S := fun _ => 24) (Mx := 4 ^ ptn C 2) (fun b hb => mass2W hW (nt_ptS hW hb)) (fun τ _ => mnA2 hW fun a ha => nt_ptS hW (d := 2) ha)
    unfold ptD
    rw [mn_cg (A := ptM C 2) (fun i j _ _ => ptG2_mul)]
    have h1 := npr_4 (y := 24) hn (by decide)
    have h2 : 4 ^ ptn C 2 ≤ 4 ^ 4 := Nat.pow_le_pow_right (by decide) hn
    refine Nat.le_trans h (Nat.le_trans (Nat.mul_le_mul h1 h2) ?_)
    decide
theorem npr_k1 : ∀ n, n < 5 → ∀ k, k < n → npr n (fun j => if j = k then 54 else 18) * 1 ≤ 314928 := by decide +kernel
theorem npr_k2 : ∀ n, n < 5 → ∀ k, k < n → npr n (fun j => if j = k then 324 else 24) * 4 ^ n ≤ 1146617856 := by decide +kernel
theorem ptK_abs (hW : jWf C) {d ch k : Nat} (hd : d = 1 ∨ d = 2) (hc : ch < 3) (hk : k < ptn C d) : (ptK C d ch k).natAbs ≤ ptPK d := by
  have hn := ptn_le hW hd
  rcases hd with rfl | rfl
  · have h := mn_mulB (k := ptn C 1) (K := cE C) (A := fun a e => cOne C (nt (ptS C 1) a) e) (B := fun e b => if b = k then cCh C ch e else (cEd C e 2 : Int) * cOne C (nt (ptS C 1) b) e) (S := fun j => if j = k then 54 else 18) (Mx := 1) (fun b _ => by
      by_cases c : b = k
      · rw [if_pos c]
        simp only [if_pos c]
        exact (massC hW hc).1
      · rw [if_neg c]
        simp only [if_neg c]
        exact mass1W hW) (fun τ _ => mnA1)
    unfold ptK
    rw [mn_cg (B := fun a b => jsum (cE C) (fun e => cOne C (nt (ptS C 1) a) e * (if b = k then cCh C ch e else (cEd C e 2 : Int) * cOne C (nt (ptS C 1) b) e))) (fun i j _ _ => by
      unfold cwd
      by_cases c : j = k
      · simp only [if_pos c]; exact ptR1_mul
      · simp only [if_neg c]; exact ptG1_mul)]
    exact Nat.le_trans h (npr_k1 _ (by omega) k hk)
  · have h := mn_mulB (k := ptn C 2) (K := cE C) (A := fun a e => cTwo C e (nt (ptS C 2) a)) (B := fun e b => if b = k then cCh C ch e * ptW C e else cTwo C e (nt (ptS C 2) b) * ptW C e) (S := fun j => if j = k then 324 else 24) (Mx := 4 ^ ptn C 2) (fun b hb => by
      by_cases c : b = k
      · rw [if_pos c]
        simp only [if_pos c]
        exact (massC hW hc).2
      · rw [if_neg c]
        simp only [if_neg c]
        exact mass2W hW (nt_ptS hW hb)) (fun τ _ => mnA2 hW fun a ha => nt_ptS hW (d := 2) ha)
    unfold ptK
    rw [mn_cg (B := fun a b => jsum (cE C) (fun e => cTwo C e (nt (ptS C 2) a) * (if b = k then cCh C ch e * ptW C e else cTwo C e (nt (ptS C 2) b) * ptW C e))) (fun i j _ _ => by
      unfold cwd
      by_cases c : j = k
      · simp only [if_pos c]; exact ptR2_mul
      · simp only [if_neg c]; exact ptG2_mul)]
    exact Nat.le_trans h (npr_k2 _ (by omega) k hk)
theorem ptB_abs (hW : jWf C) {d e j : Nat} (he : e < cE C) (hd : d = 1 ∨ (d = 2 ∧ j < cF C)) : (ptB C d e j).natAbs ≤ (if d = 1 then 3 else 4) := by
  unfold ptB
  rcases hd with rfl | ⟨rfl, hj⟩
  · rw [if_pos rfl, if_pos rfl, Int.natAbs_mul]
    have := hW.2.2.2.1 e he
    have h1 := cOne_rg (C := C) (p := j) (e := e)
    exact Nat.le_trans (Nat.mul_le_mul h1 (show (cEd C e 2 : Int).natAbs ≤ 3 by omega)) (by decide)
  · rw [if_neg (by decide), if_neg (by decide)]
    exact cTwo_rg hW hj
theorem ptA_abs (hW : jWf C) {d ch e : Nat} (hd : d = 1 ∨ d = 2) (hc : ch < 3) (he : e < cE C) : (ptA C d ch e).natAbs ≤ ptPA d := by
  have hn := ptn_le hW hd
  unfold ptA
  refine Nat.le_trans (ds_abs (b := (if d = 1 then 3 else 4) * ptPK d) fun j hj => ?_) ?_
  · rw [Int.natAbs_mul]
    refine Nat.mul_le_mul (ptB_abs hW he ?_) (ptK_abs hW hd hc hj)
    rcases hd with rfl | rfl
    · exact .inl rfl
    · exact .inr ⟨rfl, nt_ptS hW hj⟩
  · refine Nat.le_trans (Nat.mul_le_mul_right _ hn) ?_
    rcases hd with rfl | rfl <;> decide
theorem ptG_abs (hW : jWf C) {d i j : Nat} (hd : d = 1 ∨ d = 2) (hi : i < ptN C d) (hj : j < ptN C d) : (ptG C d i j).natAbs ≤ (if d = 1 then 18 else 96) := by
  rcases hd with rfl | rfl
  · exact near_abs hW (w := 0) (by decide) hi hj
  · rw [ptG2_mul, if_neg (by decide)]
    refine Nat.le_trans ds_nsm ?_
    have h : nsm (cE C) (fun e => (cTwo C e i * (cTwo C e j * ptW C e)).natAbs) ≤ nsm (cE C) (fun e => (cTwo C e j * ptW C e).natAbs * 4) := nsm_le fun e he => by
      rw [Int.natAbs_mul, Nat.mul_comm]
      exact Nat.mul_le_mul_left _ (cTwo_rg hW hi)
    rw [nsm_mul] at h
    have := mass2W hW (f := j) hj
    omega
theorem ptR_abs (hW : jWf C) {d ch j : Nat} (hd : d = 1 ∨ d = 2) (hc : ch < 3) (hj : j < ptN C d) : (ptR C d ch j).natAbs ≤ (if d = 1 then 54 else 216) := by
  rcases hd with rfl | rfl
  · rw [ptR1_mul, if_pos rfl]
    refine Nat.le_trans ds_nsm ?_
    have h : nsm (cE C) (fun e => (cOne C j e * cCh C ch e).natAbs) ≤ nsm (cE C) (fun e => (cCh C ch e).natAbs) := nsm_le fun e he => by
      rw [Int.natAbs_mul]
      have := Nat.mul_le_mul_right (cCh C ch e).natAbs (cOne_rg (C := C) (p := j) (e := e))
      omega
    have := (massC hW hc).1
    omega
  · rw [ptR2_mul, if_neg (by decide)]
    refine Nat.le_trans ds_nsm ?_
    have h : nsm (cE C) (fun e => (cTwo C e j * (cCh C ch e * ptW C e)).natAbs) ≤ nsm (cE C) (fun e => (cTwo C e j).natAbs * 54) := nsm_le fun e he => by
      rw [Int.natAbs_mul]
      refine Nat.mul_le_mul_left _ ?_
      rw [Int.natAbs_mul]
      exact Nat.mul_le_mul (cCh_abs hW hc he) (show (ptW C e).natAbs ≤ 6 by have := ptW_6 hW he; omega)
    rw [nsm_mul] at h
    have := mass2 hW (f := j) hj
    omega
theorem jBd_pt : ∀ n, n ≤ 4 → jBd n 324 := by
  intro n hn
  constructor
  · intro k hk
    rcases (show k = 0 ∨ k = 1 ∨ k = 2 by omega) with rfl | rfl | rfl <;> decide
  · intro k hk
    rcases (show k = 0 ∨ k = 1 ∨ k = 2 ∨ k = 3 by omega) with rfl | rfl | rfl | rfl <;> decide
end PU
