/-! SIZES, 93.zyh: tables with small minors (no program in sight) -/
theorem inn_ag {R K' : Nat} {F0 A : Nat → Nat → Int} (hF : ∀ x y, x < R → y < K' → F0 x y = A x y) : ∀ x y, inn R K' 0 x y → A x y = F0 x y := fun x y h => (hF x y h.2.1 h.2.2.2).symm
theorem smallA_4 {R K' e m q a b c E : Nat} {A : Nat → Nat → Int} (he : e = (R - 1 - 3) + (K' - 1 - 3)) (h5 : bdM 5 R K' 0 A 0) (h4 : bdM 4 R K' 0 A c) (h3 : bdM 3 R K' 0 A b) (h2 : bdM 2 R K' 0 A a) (h1 : bdM 1 R K' 0 A E) (hq : lsB R K' 0 A q) (hE : E ≤ 4294967296) (hq32 : q ≤ 4294967296) (hok : ok4 e m q a b c = true) : smallA R K' A := by
  intro F0 hF
  have e0 := inn_ag hF
  refine S4_small he (.inl ⟨q, a, b, c, rfl, bdM_cg e0 h5, bdM_cg e0 h4, bdM_cg e0 h3, bdM_cg e0 h2, bdM_mono (bdM_cg e0 h1) (by omega), ?_, hq32, hok⟩)
  rcases hq with z | ⟨x, y, u, v, w⟩
  · exact .inl fun x y h => by rw [← e0 x y h]; exact z x y h
  · exact .inr ⟨x, y, u, by rw [← e0 x y u]; exact v, by rw [← e0 x y u]; exact w⟩
/-- all minors are 0, 1, -1: no step fails -/
theorem smallA_1 {R K' : Nat} {A : Nat → Nat → Int} (h : ∀ n, bdM n R K' 0 A 1) : smallA R K' A := by
  intro F0 hF k F hr i j hij
  have e0 := inn_ag hF
  have := hr (fun k F => ∀ n, bdM n R K' k F 1) (fun n => bdM_cg e0 (h n)) (fun k F i j h hl => by
    obtain ⟨⟨i1, i2, i3, i4⟩, i5, i6⟩ := hl
    have s := fun n => bdM_sw ⟨i1, i2⟩ ⟨i3, i4⟩ (h n)
    have hp : swc (swr F k i) k j k k ≠ 0 := by rw [sw_kk]; exact i5
    unfold stp
    generalize swc (swr F k i) k j = G at *
    refine ⟨fun c n => next_bd hp (by omega) (by omega) c (s (n + 1)), fun c => ?_⟩
    have p2 := fail_2 (by omega) (by omega) hp c
    have := bdM_1.mp (s 1) k k ⟨Nat.le_refl k, by omega, Nat.le_refl k, by omega⟩
    omega)
  have := bdM_1.mp (this 1) i j hij
  omega
section TB
variable {C : CX}
theorem few_J (hW : jWf C) {d s : Nat} (hs : s < 2 ^ cCols C d) : sN s ≤ cCols C d ∧ sN s ≤ 6 := by
  have hk := cCols_le hW (d := d)
  have := sN_K (cCols C d) (by omega) s hs
  omega
theorem small_one {s : Nat} : smallA (cRows C 1) (sN s) (smT (cTab C 1) s) := smallA_1 fun n σ τ _ _ => by
  show (mn n (fun a b => cOne C (σ a) (nt s (τ b)))).natAbs ≤ 1
  exact mn_one
theorem mn_smT2 (hW : jWf C) {s n : Nat} (hs : s < 2 ^ cF C) {G : Nat → Nat → Int} (hG : ∀ e j, G e j = cTwo C e j) : bdM n (cE C) (sN s) 0 (smT G s) (4 ^ n) := fun σ τ _ ht => by
  rw [mn_cg (A := fun a b => smT G s (σ a) (τ b)) (B := fun a b => cTwo C (σ a) (nt s (τ b))) (fun a b _ _ => hG _ _)]
  exact mn_two hW (τ := fun b => nt s (τ b)) (fun b hb => nt_lt hs (by have := hW.2.2.1; omega) (ht b hb).2)
theorem small_two (hW : jWf C) {s : Nat} (hs : s < 2 ^ cF C) {G : Nat → Nat → Int} (hG : ∀ e j, G e j = cTwo C e j) : smallA (cE C) (sN s) (smT G s) := by
  have hF := hW.2.2.1
  have hE := hW.2.1
  have hJ : sN s ≤ 4 := by
    have := sN_K (cF C) (by omega) s hs
    omega
  have h := fun n => mn_smT2 hW (n := n) hs hG
  refine smallA_4 (e := cE C - 4) (m := 17) (q := 4) (a := 16) (b := 64) (c := 256) (E := 4) (by omega) (bdM_few (by decide) (by omega)) (h 4) (h 3) (h 2) (h 1) (lsB_of (h 1)) (by decide) (by decide) ?_
  have : cE C - 4 = 0 ∨ cE C - 4 = 1 ∨ cE C - 4 = 2 := by omega
  rcases this with e | e | e <;> rw [e] <;> decide +kernel
theorem jSmS_all (hW : jWf C) : jSmS C := by
  intro d hd s hs
  rcases hd with rfl | rfl
  · exact small_one
  · exact small_two hW hs fun _ _ => rfl
/-- numbers of rows times weights -/
theorem mn_drv (hW : jWf C) {n : Nat} {σ τ : Nat → Nat} (hσ : ∀ a, a < n → σ a < cE C) : (mn n (fun a b => cOne C (τ b) (σ a) * (cEd C (σ a) 2 : Int))).natAbs ≤ 3 ^ n := by
  rw [← mn_tr]
  have h := mn_mulB (k := n) (K := cE C) (A := fun a c => cOne C (τ a) c) (B := fun c b => if c = σ b then (cEd C (σ b) 2 : Int) else 0) (S := fun _ => 3) (Mx := 1) (fun b hb => by
    have hw := hW.2.2.2.1 (σ b) (hσ b hb)
    have h1 : nsm (cE C) (fun c => (if c = σ b then 1 else 0)) ≤ 1 := nsm_1 (fun k _ => by split <;> omega) (fun a c _ _ ha hc => by
      by_cases x : a = σ b
      · by_cases y : c = σ b
        · omega
        · rw [if_neg y] at hc; exact absurd rfl hc
      · rw [if_neg x] at ha; exact absurd rfl ha)
    have h2 : nsm (cE C) (fun c => (if c = σ b then (cEd C (σ b) 2 : Int) else 0).natAbs) ≤ nsm (cE C) (fun c => (if c = σ b then 1 else 0) * 3) := nsm_le fun c _ => by
      split
      · omega
      · exact Nat.le_refl _
    rw [nsm_mul] at h2
    omega) (fun τ' _ => mn_one)
  rw [Nat.mul_one, npr_c] at h
  rw [mn_cg (B := fun a b => jsum (cE C) (fun c => cOne C (τ a) c * (if c = σ b then (cEd C (σ b) 2 : Int) else 0))) (fun a b _ hb => by
    rw [ds_one (hσ b hb) (fun c _ ca => by rw [if_neg ca, Int.mul_zero]), if_pos rfl])]
  exact h
theorem small_drv (hW : jWf C) {s : Nat} (hs : s < 2 ^ cP C) : smallA (cE C) (sN s) (smT (ptB C 1) s) := by
  have hP := hW.1
  have hE := hW.2.1
  have hJ : sN s ≤ cP C := sN_K (cP C) (by omega) s hs
  have h : ∀ n, bdM n (cE C) (sN s) 0 (smT (ptB C 1) s) (3 ^ n) := fun n σ τ hσ ht => by
    rw [mn_cg (B := fun a b => cOne C (nt s (τ b)) (σ a) * (cEd C (σ a) 2 : Int)) (fun a b _ _ => by unfold smT ptB; rw [if_pos rfl])]
    exact mn_drv hW (τ := fun b => nt s (τ b)) (fun a ha => (hσ a ha).2)
  have h5 : bdM 5 (cE C) (sN s) 0 (smT (ptB C 1) s) 0 := by
    by_cases c5 : sN s < 5
    · exact bdM_few (by decide) (by omega)
    -- all points: the columns come to nothing together
    have p5 : cP C = 5 := by omega
    have n5 : sN s = 5 := by omega
    rw [p5] at hs
    have all : ∀ s, s < 2 ^ 5 → sN s = 5 → ∀ a, a < 5 → nt s a = a := by decide +kernel
    have hid := all _ hs n5
    have h1 : dv 5 (sN s) (cE C) (fun a e => cOne C (nt s a) e) 0 := by
      refine dv_inc.mpr fun σ τ i1 i2 i3 i4 => ?_
      rw [n5] at i2
      rw [mn_rsum (by decide) (fun b hb => ?_)]
      · exact Int.dvd_refl 0
      · have ed := hW.2.2.2.1 _ (i4 b hb)
        rw [jsum_cg (g := fun a => cOne C a (τ b)) (fun a ha => by rw [inc_id i1 i2 a ha, hid a ha])]
        unfold cOne
        generalize cEd C (τ b) 1 = x at ed ⊢
        generalize cEd C (τ b) 0 = y at ed ⊢
        have key : ∀ x, x < 5 → ∀ y, y < 5 → jsum 5 (fun a => (if x = a then (1 : Int) else 0) - (if y = a then 1 else 0)) = 0 := by decide
        exact key x (by omega) y (by omega)
    have h2 : dv 5 (cE C) (sN s) (smT (ptB C 1) s) 0 := by
      refine dv_cg (fun e a _ _ => ?_) ((dv_wrow (w := fun e => (cEd C e 2 : Int)) (fun e he => by have := hW.2.2.2.1 e he; omega)).mpr (dv_tr h1))
      unfold smT ptB
      rw [if_pos rfl, Int.mul_comm]
    exact fun σ τ hσ ht => by
      have := Int.zero_dvd.mp (h2 σ τ (fun a ha => (hσ a ha).2) (fun b hb => (ht b hb).2))
      rw [this]; exact Nat.zero_le _
  refine smallA_4 (e := (cE C - 1 - 3) + (sN s - 1 - 3)) (m := 12) (q := 3) (a := 9) (b := 27) (c := 81) (E := 3) rfl h5 (h 4) (h 3) (h 2) (h 1) (lsB_of (h 1)) (by decide) (by decide) ?_
  have : (cE C - 1 - 3) + (sN s - 1 - 3) = 0 ∨ (cE C - 1 - 3) + (sN s - 1 - 3) = 1 ∨ (cE C - 1 - 3) + (sN s - 1 - 3) = 2 ∨ (cE C - 1 - 3) + (sN s - 1 - 3) = 3 := by omega
  rcases this with e | e | e | e <;> rw [e] <;> decide +kernel
end TB
