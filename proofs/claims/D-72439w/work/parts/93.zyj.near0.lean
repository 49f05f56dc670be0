/-! SIZES, 93.zyj: near 0 (no program in sight) -/
section N0
variable {C : CX}
def degW (C : CX) (p : Nat) : Nat := nsm (cE C) (fun e => ((cEd C e 2 : Int) * cOne C p e).natAbs)
theorem near0_eq {i j : Nat} : cNear C 0 i j = jsum (cE C) (fun e => cOne C i e * ((cEd C e 2 : Int) * cOne C j e)) := by
  unfold cNear
  rw [if_neg (by decide)]
  show jsum (cE C) (fun k => cOne C i k * (cEd C k 2 : Int) * cOne C j k) = _
  exact jsum_cg fun e _ => Int.mul_assoc _ _ _
theorem deg_sum (hW : jWf C) {n : Nat} {τ : Nat → Nat} (h : ij n τ) : nsm n (fun b => degW C (τ b)) ≤ 36 := by
  have hE := hW.2.1
  unfold degW
  rw [nsm_swap]
  have one : ∀ v : Nat, nsm n (fun b => if v = τ b then 1 else 0) ≤ 1 := fun v => nsm_1 (fun k _ => by split <;> omega) (fun a c ha hc h1 h2 => by
    by_cases x : v = τ a
    · by_cases y : v = τ c
      · exact h a c ha hc (x.symm.trans y)
      · rw [if_neg y] at h2; exact absurd rfl h2
    · rw [if_neg x] at h1; exact absurd rfl h1)
  have h6 : ∀ e, e < cE C → nsm n (fun b => ((cEd C e 2 : Int) * cOne C (τ b) e).natAbs) ≤ 6 := fun e he => by
    have hw := hW.2.2.2.1 e he
    have h1 := nsm_le (n := n) (f := fun b => ((cEd C e 2 : Int) * cOne C (τ b) e).natAbs) (g := fun b => ((if cEd C e 1 = τ b then 1 else 0) + (if cEd C e 0 = τ b then 1 else 0)) * 3) fun b _ => by
      rw [Int.natAbs_mul]
      have : (cOne C (τ b) e).natAbs ≤ (if cEd C e 1 = τ b then 1 else 0) + (if cEd C e 0 = τ b then 1 else 0) := by
        unfold cOne
        split <;> split <;> decide
      rw [Nat.mul_comm]
      exact Nat.mul_le_mul this (by omega)
    rw [nsm_mul, nsm_add] at h1
    have := one (cEd C e 1)
    have := one (cEd C e 0)
    omega
  have := nsm_c (n := cE C) h6
  omega
theorem near0_bd (hW : jWf C) {n : Nat} {τ σ : Nat → Nat} : (mn n (fun a b => cNear C 0 (σ a) (τ b))).natAbs ≤ npr n (fun b => degW C (τ b)) := by
  rw [mn_cg (A := fun a b => cNear C 0 (σ a) (τ b)) (B := fun a b => jsum (cE C) (fun e => cOne C (σ a) e * ((cEd C e 2 : Int) * cOne C (τ b) e))) (fun a b _ _ => near0_eq)]
  have := mn_mulB (k := n) (K := cE C) (A := fun a e => cOne C (σ a) e) (B := fun e b => (cEd C e 2 : Int) * cOne C (τ b) e) (S := fun b => degW C (τ b)) (Mx := 1) (fun b _ => Nat.le_refl _) (fun τ' _ => mn_one)
  rw [Nat.mul_one] at this
  exact this
theorem near0_2 (hW : jWf C) : bdM 2 (cP C) (cP C) 0 (cNear C 0) 324 := fun σ τ _ _ => by
  by_cases c : ij 2 τ
  · refine Nat.le_trans (near0_bd hW) ?_
    have h := deg_sum hW c
    have e : nsm 2 (fun b => degW C (τ b)) = 0 + degW C (τ 0) + degW C (τ 1) := rfl
    have e2 : npr 2 (fun b => degW C (τ b)) = 1 * degW C (τ 0) * degW C (τ 1) := rfl
    rw [e] at h
    rw [e2, Nat.one_mul]
    have := am4 (x := degW C (τ 0)) (y := degW C (τ 1)) (z := 18) (w := 18) (s := 36) (by omega)
    omega
  · rw [mn_nijc c]; exact Nat.zero_le _
theorem near0_3 (hW : jWf C) : bdM 3 (cP C) (cP C) 0 (cNear C 0) 1728 := fun σ τ _ _ => by
  by_cases c : ij 3 τ
  · refine Nat.le_trans (near0_bd hW) ?_
    have h := deg_sum hW c
    have e : nsm 3 (fun b => degW C (τ b)) = 0 + degW C (τ 0) + degW C (τ 1) + degW C (τ 2) := rfl
    have e2 : npr 3 (fun b => degW C (τ b)) = 1 * degW C (τ 0) * degW C (τ 1) * degW C (τ 2) := rfl
    rw [e] at h
    rw [e2, Nat.one_mul]
    have := am4 (x := degW C (τ 0)) (y := degW C (τ 1)) (z := degW C (τ 2)) (w := 12) (s := 24) (by omega)
    rw [← Nat.mul_assoc (degW C (τ 0) * degW C (τ 1))] at this
    omega
  · rw [mn_nijc c]; exact Nat.zero_le _
theorem near0_4 (hW : jWf C) : bdM 4 (cP C) (cP C) 0 (cNear C 0) 6561 := fun σ τ _ _ => by
  by_cases c : ij 4 τ
  · refine Nat.le_trans (near0_bd hW) ?_
    have h := deg_sum hW c
    have e : nsm 4 (fun b => degW C (τ b)) = 0 + degW C (τ 0) + degW C (τ 1) + degW C (τ 2) + degW C (τ 3) := rfl
    have e2 : npr 4 (fun b => degW C (τ b)) = 1 * degW C (τ 0) * degW C (τ 1) * degW C (τ 2) * degW C (τ 3) := rfl
    rw [e] at h
    rw [e2, Nat.one_mul, Nat.mul_assoc (degW C (τ 0) * degW C (τ 1))]
    have := am4 (x := degW C (τ 0)) (y := degW C (τ 1)) (z := degW C (τ 2)) (w := degW C (τ 3)) (s := 18) (by omega)
    omega
  · rw [mn_nijc c]; exact Nat.zero_le _
theorem near0_1 (hW : jWf C) : bdM 1 (cP C) (cP C) 0 (cNear C 0) 18 := fun σ τ _ _ => by
  refine Nat.le_trans (near0_bd hW) ?_
  show 1 * degW C (τ 0) ≤ 18
  rw [Nat.one_mul]
  exact mass1W hW
/-- two edges with the same ends -/
def par (C : CX) (e k : Nat) : Prop := (∀ p, cOne C p k = cOne C p e) ∨ ∀ p, cOne C p k = - cOne C p e
theorem par_of {e k : Nat} (h0 : cEd C e 0 ≠ cEd C e 1) (h1 : cOne C (cEd C e 0) k ≠ 0) (h2 : cOne C (cEd C e 1) k ≠ 0) : par C e k := by
  unfold cOne at h1 h2
  unfold par cOne
  by_cases a : cEd C k 1 = cEd C e 0
  · by_cases b : cEd C k 0 = cEd C e 0
    · rw [if_pos a, if_pos b] at h1; exact absurd rfl h1
    · by_cases c : cEd C k 0 = cEd C e 1
      · exact .inr fun p => by rw [a, c, Int.neg_sub]
      · rw [if_neg (show ¬ cEd C k 1 = cEd C e 1 by omega), if_neg c] at h2; exact absurd rfl h2
  · by_cases b : cEd C k 0 = cEd C e 0
    · by_cases c : cEd C k 1 = cEd C e 1
      · exact .inl fun p => by rw [b, c]
      · rw [if_neg c, if_neg (show ¬ cEd C k 0 = cEd C e 1 by omega)] at h2; exact absurd rfl h2
    · rw [if_neg a, if_neg b] at h1; exact absurd rfl h1
theorem par_mn {n s t : Nat} {σ τ : Nat → Nat} (hs : s < n) (ht : t < n) (hne : s ≠ t) (h : par C (τ s) (τ t)) : mn n (fun a b => cOne C (σ a) (τ b)) = 0 := by
  rcases h with h | h
  · exact mn_ceq2 hs ht hne fun i _ => (h _).symm
  · have e : mn n (fun a b => cOne C (σ a) (τ b)) = mn n (cwd (fun a b => cOne C (σ a) (τ b)) t (fun i => (-1) * cOne C (σ i) (τ s) + 0 * cOne C (σ i) (τ s))) := (cwd_same fun i _ => by rw [h, Int.zero_mul, Int.add_zero, Int.neg_mul, Int.one_mul]).symm
    rw [e, mn_col ht, mn_ceq2 (A := cwd (fun a b => cOne C (σ a) (τ b)) t (fun i => cOne C (σ i) (τ s))) hs ht hne (fun i _ => by
      unfold cwd
      rw [if_pos rfl, if_neg hne])]
    rfl
theorem par_tr {e k l : Nat} (h1 : par C e k) (h2 : par C k l) : par C e l := by
  rcases h1 with a | a <;> rcases h2 with b | b
  · exact .inl fun p => by rw [b, a]
  · exact .inr fun p => by rw [b, a]
  · exact .inr fun p => by rw [b, a]
  · exact .inl fun p => by rw [b, a, Int.neg_neg]
theorem par_sy {e k : Nat} (h1 : par C e k) : par C k e := by
  rcases h1 with a | a
  · exact .inl fun p => (a p).symm
  · exact .inr fun p => by rw [a, Int.neg_neg]
/-- of rank 4 there is an edge without another one of its ends -/
theorem alone_ex (hW : jWf C) (h : ¬ dv 4 (cP C) (cE C) (cOne C) 0) : ∃ e, e < cE C ∧ cEd C e 0 ≠ cEd C e 1 ∧ ∀ k, k < cE C → k ≠ e → ¬ par C e k := by
  have hE := hW.2.1
  refine Classical.byContradiction fun hn => h fun σ τ hs ht => ?_
  refine Classical.byContradiction fun hm => ?_
  have hz : mn 4 (fun a b => cOne C (σ a) (τ b)) ≠ 0 := fun y => hm (by rw [y]; exact Int.dvd_refl 0)
  -- no loop
  have nl : ∀ b, b < 4 → cEd C (τ b) 0 ≠ cEd C (τ b) 1 := fun b hb e => hz (by
    have e0 : ∀ i, cOne C (σ i) (τ b) = 0 := fun i => by unfold cOne; rw [e]; exact Int.sub_self _
    have e1 : mn 4 (fun a b => cOne C (σ a) (τ b)) = mn 4 (cwd (fun a b => cOne C (σ a) (τ b)) b (fun i => 0 * cOne C (σ i) (τ b) + 0 * cOne C (σ i) (τ b))) := (cwd_same fun i _ => by rw [e0]; rfl).symm
    rw [e1, mn_col hb, Int.zero_mul, Int.zero_add])
  have hp : ∀ b, b < 4 → ∃ k, k < cE C ∧ k ≠ τ b ∧ par C (τ b) k := fun b hb => Classical.byContradiction fun z => hn ⟨τ b, ht b hb, nl b hb, fun k hk kb hpk => z ⟨k, hk, kb, hpk⟩⟩
  obtain ⟨π, hπ⟩ : ∃ π : Nat → Nat, ∀ b, b < 4 → π b < cE C ∧ π b ≠ τ b ∧ par C (τ b) (π b) := ⟨fun b => @dite Nat (b < 4) (Nat.decLt b 4) (fun hb => Classical.choose (hp b hb)) (fun _ => 0), fun b hb => by
    dsimp only
    rw [dif_pos hb]; exact Classical.choose_spec (hp b hb)⟩
  have np : ∀ a b, a < 4 → b < 4 → par C (τ a) (τ b) → a = b := fun a b ha hb y => Classical.byContradiction fun c => hz (par_mn ha hb c y)
  have rf : ∀ e, par C e e := fun e => .inl fun _ => rfl
  have := pigeon 8 (cE C) (fun t => if t < 4 then τ t else π (t - 4)) (fun a b ha hb e => by
    dsimp only at e
    by_cases ca : a < 4
    · by_cases cb : b < 4
      · rw [if_pos ca, if_pos cb] at e
        exact np a b ca cb (by rw [e]; exact rf _)
      · rw [if_pos ca, if_neg cb] at e
        have hb4 := hπ (b - 4) (by omega)
        have : a = b - 4 := np a (b - 4) ca (by omega) (by rw [e]; exact par_sy hb4.2.2)
        rw [this] at e
        exact absurd e.symm hb4.2.1
    · by_cases cb : b < 4
      · rw [if_neg ca, if_pos cb] at e
        have ha4 := hπ (a - 4) (by omega)
        have : a - 4 = b := np (a - 4) b (by omega) cb (by rw [← e]; exact ha4.2.2)
        rw [← this] at e
        exact absurd e ha4.2.1
      · rw [if_neg ca, if_neg cb] at e
        have ha4 := hπ (a - 4) (by omega)
        have hb4 := hπ (b - 4) (by omega)
        have := np (a - 4) (b - 4) (by omega) (by omega) (par_tr ha4.2.2 (by rw [e]; exact par_sy hb4.2.2))
        omega) (fun a ha => by
    show (if a < 4 then τ a else π (a - 4)) < cE C
    split
    · rename_i c
      exact ht a c
    · exact (hπ (a - 4) (by omega)).1)
  omega
theorem small_near0 (hW : jWf C) : smallA (cP C) (cP C) (cNear C 0) := by
  have hP := hW.1
  by_cases h4 : dv 4 (cP C) (cE C) (cOne C) 0
  · have z4 : bdM 4 (cP C) (cP C) 0 (cNear C 0) 0 := bdM_dv (dv_cg (fun i j _ _ => near0_eq.symm) (dv_mul h4))
    refine smallA_3 (m := 5) (q := 18) (a := 324) (b := 1728) (E := 18) z4 (near0_3 hW) (near0_2 hW) (near0_1 hW) (lsB_of (near0_1 hW)) (by decide) (by decide) ?_
    have : (cP C - 3) + (cP C - 3) ≤ 4 := by omega
    have h2 : (2 * (18 + 1)) ^ ((cP C - 3) + (cP C - 3)) ≤ (2 * (18 + 1)) ^ 4 := Nat.pow_le_pow_right (by decide) this
    have h3 : (4 * (5 + 1) + 1) * (1728 * (2 * (18 + 1)) ^ ((cP C - 3) + (cP C - 3))) ≤ (4 * (5 + 1) + 1) * (1728 * (2 * (18 + 1)) ^ 4) := Nat.mul_le_mul_left _ (Nat.mul_le_mul_left _ h2)
    have e : (4 * (5 + 1) + 1) * (1728 * (2 * (18 + 1)) ^ 4) = 90077875200 := by decide
    omega
  · obtain ⟨e, he, ne, al⟩ := alone_ex hW h4
    have hw := hW.2.2.2.1 e he
    have z5 : bdM 5 (cP C) (cP C) 0 (cNear C 0) 0 := bdM_dv (dv_cg (fun i j _ _ => near0_eq.symm) (dv_mul (one_5 hW)))
    have v : cNear C 0 (cEd C e 0) (cEd C e 1) = - (cEd C e 2 : Int) := by
      rw [near0_eq, ds_one he (fun k hk ke => ?_)]
      · unfold cOne
        rw [if_neg (show ¬ cEd C e 1 = cEd C e 0 by omega), if_pos rfl, if_pos rfl, if_neg ne]
        omega
      · rcases Classical.em (cOne C (cEd C e 0) k = 0) with z | z
        · rw [z, Int.zero_mul]
        · rcases Classical.em (cOne C (cEd C e 1) k = 0) with y | y
          · rw [y, Int.mul_zero, Int.mul_zero]
          · exact absurd (par_of ne z y) (al k hk ke)
    refine smallA_4 (e := (cP C - 1 - 3) + (cP C - 1 - 3)) (m := 18) (q := 3) (a := 324) (b := 1728) (c := 6561) (E := 18) rfl z5 (near0_4 hW) (near0_3 hW) (near0_2 hW) (near0_1 hW) (.inr ⟨cEd C e 0, cEd C e 1, ⟨Nat.zero_le _, hw.1, Nat.zero_le _, hw.2.1⟩, by rw [v]; omega, by rw [v]; omega⟩) (by decide) (by decide) ?_
    have : (cP C - 1 - 3) + (cP C - 1 - 3) = 0 ∨ (cP C - 1 - 3) + (cP C - 1 - 3) = 2 := by omega
    rcases this with e | e <;> rw [e] <;> decide +kernel
end N0
