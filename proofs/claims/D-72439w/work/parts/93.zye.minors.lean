/-! SIZES, 93.zye: bounds of minors under steps (no program in sight) -/
/-- a bound of all inner minors of a size -/
def bdM (n R K' k : Nat) (F : Nat → Nat → Int) (N : Nat) : Prop := ∀ σ τ, inr k R n σ → inr k K' n τ → (mn n (fun a b => F (σ a) (τ b))).natAbs ≤ N
theorem bdM_tr {n R K' k N : Nat} {F : Nat → Nat → Int} (h : bdM n R K' k F N) : bdM n K' R k (fun i j => F j i) N := fun σ τ hs ht => by
  have := h τ σ ht hs
  rw [← mn_tr] at this
  exact this
theorem bdM_mono {n R K' k N N' : Nat} {F : Nat → Nat → Int} (h : bdM n R K' k F N) (hN : N ≤ N') : bdM n R K' k F N' := fun σ τ hs ht => Nat.le_trans (h σ τ hs ht) hN
theorem bdM_sw {n R K' k i j N : Nat} {F : Nat → Nat → Int} (hi : k ≤ i ∧ i < R) (hj : k ≤ j ∧ j < K') (h : bdM n R K' k F N) : bdM n R K' k (swc (swr F k i) k j) N := fun σ τ hs ht =>
  h (fun a => sw2 k i (σ a)) (fun b => sw2 k j (τ b)) (fun a ha => sw2_in hi.1 hi.2 (hs a ha).1 (hs a ha).2) (fun b hb => sw2_in hj.1 hj.2 (ht b hb).1 (ht b hb).2)
theorem mn_1 {A : Nat → Nat → Int} : mn 1 A = A 0 0 := by
  rw [mn_succ]
  show 0 + sgn 0 * (A 0 0 * 1) = _
  have : sgn 0 = 1 := rfl
  rw [this]; omega
theorem bdM_1 {R K' k N : Nat} {F : Nat → Nat → Int} : bdM 1 R K' k F N ↔ ∀ x y, inn R K' k x y → (F x y).natAbs ≤ N := by
  constructor
  · intro h x y hxy
    have := h (fun _ => x) (fun _ => y) (fun _ _ => ⟨hxy.1, hxy.2.1⟩) (fun _ _ => ⟨hxy.2.2.1, hxy.2.2.2⟩)
    rw [mn_1] at this
    exact this
  · intro h σ τ hs ht
    rw [mn_1]
    exact h _ _ ⟨(hs 0 (by decide)).1, (hs 0 (by decide)).2, (ht 0 (by decide)).1, (ht 0 (by decide)).2⟩
theorem cn_ij {n k : Nat} {σ : Nat → Nat} (h : ij n σ) (hk : ∀ a, a < n → σ a ≠ k) : ij (n + 1) (cn k σ) := by
  intro a b ha hb e
  unfold cn at e
  by_cases a0 : a = 0
  · by_cases b0 : b = 0
    · omega
    · rw [if_pos a0, if_neg b0] at e
      exact absurd e.symm (hk _ (by omega))
  · by_cases b0 : b = 0
    · rw [if_neg a0, if_pos b0] at e
      exact absurd e (hk _ (by omega))
    · rw [if_neg a0, if_neg b0] at e
      have := h _ _ (by omega) (by omega) e
      omega
/-- minors through the pivot stand -/
theorem thru_eq {n R K' k : Nat} {G : Nat → Nat → Int} {σ τ : Nat → Nat} (hs : ∀ a, a < n → k < σ a) (ht : ∀ b, b < n → k < τ b ∧ τ b < K') (hkK : k < K') (is : ij n σ) (it : ij n τ) : mn (n + 1) (fun a b => colP (rowP G k) k K' (cn k σ a) (cn k τ b)) = mn (n + 1) (fun a b => G (cn k σ a) (cn k τ b)) := by
  have i1 := cn_ij (k := k) is (fun a ha => by have := hs a ha; omega)
  have i2 := cn_ij (k := k) it (fun a ha => by have := (ht a ha).1; omega)
  have c0 : ∀ σ, cn k σ 0 = k := fun σ => by unfold cn; rw [if_pos rfl]
  have ge1 : ∀ a, a < n + 1 → k ≤ cn k σ a := fun a ha => by
    unfold cn
    split
    · exact Nat.le_refl _
    · have := hs (a - 1) (by omega); omega
  have ge2 : ∀ a, a < n + 1 → k ≤ cn k τ a ∧ cn k τ a < K' := fun a ha => by
    unfold cn
    split
    · exact ⟨Nat.le_refl _, hkK⟩
    · have := ht (a - 1) (by omega); omega
  have e1 := rowP_thru (F := G) (n := n + 1) (k := k) (t := 0) (σ := cn k σ) (τ := cn k τ) (by omega) (c0 σ) i1 ge1
  have e2 := rowP_thru (F := fun i j => rowP G k j i) (n := n + 1) (k := k) (t := 0) (σ := cn k τ) (τ := cn k σ) (by omega) (c0 τ) i2 (fun a ha => (ge2 a ha).1)
  rw [← e1]
  have e3 : mn (n + 1) (fun a b => colP (rowP G k) k K' (cn k σ a) (cn k τ b)) = mn (n + 1) (fun a b => rowP (fun i j => rowP G k j i) k (cn k τ a) (cn k σ b)) := by
    rw [← mn_tr (A := fun a b => rowP (fun i j => rowP G k j i) k (cn k τ a) (cn k σ b))]
    refine mn_cg fun a b ha hb => ?_
    have := ge2 b hb
    generalize rowP G k = H
    unfold colP rowP
    dsimp only
    by_cases c : k < cn k τ b
    · rw [if_pos c, if_pos ⟨c, this.2⟩]
    · rw [if_neg c, if_neg (fun z => c z.1)]
  rw [e3, e2, ← mn_tr]
/-- the minors behind a clear: those through the pivot, by the pivot -/
theorem schur_eq {n R K' k : Nat} {G : Nat → Nat → Int} {σ τ : Nat → Nat} (hc : clrd G R K' k) (hs : ∀ a, a < n → k < σ a ∧ σ a < R) (ht : ∀ b, b < n → k < τ b ∧ τ b < K') (hkR : k < R) (hkK : k < K') (is : ij n σ) (it : ij n τ) : G k k * mn n (fun a b => colP (rowP G k) k K' (σ a) (τ b)) = mn (n + 1) (fun a b => G (cn k σ a) (cn k τ b)) := by
  rw [← thru_eq (R := R) (fun a ha => (hs a ha).1) ht hkK is it]
  obtain ⟨f0, f1, f2, -⟩ := stpF_is (R := R) (K' := K') (k := k) (G := G)
  have c0 : ∀ σ, cn k σ 0 = k := fun σ => by unfold cn; rw [if_pos rfl]
  rw [mn_onerow (v := 0) (by omega) (fun i hi i0 => ?_)]
  · have s0 : sgn 0 = 1 := rfl
    rw [s0, Int.one_mul, c0, c0, f0]
    congr 1
  · rw [c0]
    have h1 := hs (i - 1) (by omega)
    have : cn k σ i = σ (i - 1) := by unfold cn; rw [if_neg i0]
    rw [this, f1 _ h1.1 h1.2]
    have := hc.1 _ h1.1 h1.2
    rw [rowP_k h1.1] at this
    exact this
theorem inr_cn' {n R k : Nat} {σ : Nat → Nat} (hkR : k < R) (h : inr (k + 1) R n σ) : inr k R (n + 1) (cn k σ) := by
  intro a ha
  unfold cn
  split
  · exact ⟨Nat.le_refl _, hkR⟩
  · have := h (a - 1) (by omega); omega
/-- the next part's minors -/
theorem next_bd {n R K' k N : Nat} {G : Nat → Nat → Int} (hp : G k k ≠ 0) (hkR : k < R) (hkK : k < K') (hc : clrd G R K' k) (h : bdM (n + 1) R K' k G N) : bdM n R K' (k + 1) (colP (rowP G k) k K') N := by
  intro σ τ hs ht
  by_cases is : ij n σ
  · by_cases it : ij n τ
    · have e := schur_eq (n := n) hc (fun a ha => by have := hs a ha; omega) (fun a ha => by have := ht a ha; omega) hkR hkK is it
      have := h (cn k σ) (cn k τ) (inr_cn' hkR hs) (inr_cn' hkK ht)
      rw [← e, Int.natAbs_mul] at this
      have p0 : 0 < (G k k).natAbs := Int.natAbs_pos.mpr hp
      exact Nat.le_trans (Nat.le_mul_of_pos_left _ p0) this
    · rw [mn_nijc (A := colP (rowP G k) k K') it]; exact Nat.zero_le _
  · rw [mn_nij (A := colP (rowP G k) k K') is]; exact Nat.zero_le _
theorem van_bd {n R K' k : Nat} {F : Nat → Nat → Int} : van n R K' k F ↔ bdM n R K' k F 0 := by
  constructor
  · intro h σ τ hs ht
    rw [h σ τ hs ht]; exact Nat.le_refl 0
  · intro h σ τ hs ht
    have := h σ τ hs ht
    omega
/-- the numbers behind a step: by the minors of size 2 -/
theorem step_ent {R K' k N : Nat} {G : Nat → Nat → Int} (hp : G k k ≠ 0) (hkR : k < R) (hkK : k < K') (h2 : bdM 2 R K' k G N) : ∀ x y, inn R K' k x y → (colP (rowP G k) k K' x y).natAbs ≤ N + (G k k).natAbs := by
  obtain ⟨f0, f1, f2, -⟩ := stpF_is (R := R) (K' := K') (k := k) (G := G)
  intro x y ⟨x1, x2, y1, y2⟩
  have p0 : 0 < (G k k).natAbs := Int.natAbs_pos.mpr hp
  by_cases cx : x = k
  · subst cx
    by_cases cy : y = x
    · subst cy; rw [f0]; omega
    · rw [f2 y (by omega) y2]
      have := tmod_lt' (a := G x y) hp
      omega
  · by_cases cy : y = k
    · subst cy
      rw [f1 x (by omega) x2]
      have := tmod_lt' (a := G x y) hp
      omega
    · have e := thru_eq (R := R) (n := 1) (G := G) (k := k) (K' := K') (σ := fun _ => x) (τ := fun _ => y) (fun _ _ => by omega) (fun _ _ => ⟨by omega, y2⟩) hkK (fun a b ha hb _ => by omega) (fun a b ha hb _ => by omega)
      have b := h2 (cn k fun _ => x) (cn k fun _ => y) (inr_cn hkR (n := 1) (fun _ _ => ⟨x1, x2⟩)) (inr_cn hkK (n := 1) (fun _ _ => ⟨y1, y2⟩))
      rw [← e] at b
      generalize hF : colP (rowP G k) k K' = F' at *
      have two : mn 2 (fun a b => F' (cn k (fun _ => x) a) (cn k (fun _ => y) b)) = F' k k * F' x y - F' x k * F' k y := by
        rw [mn_succ]
        have s0 : sgn 0 = 1 := rfl
        have s1 : sgn 1 = -1 := rfl
        show 0 + sgn 0 * (F' k k * mn 1 _) + sgn 1 * (F' x k * mn 1 _) = _
        rw [s0, s1, mn_1, mn_1]
        show 0 + 1 * (F' k k * F' x y) + -1 * (F' x k * F' k y) = _
        grind
      rw [two, f0, f1 x (by omega) x2, f2 y (by omega) y2] at b
      have r1 := tmod_lt' (a := G x k) hp
      have r2 := tmod_lt' (a := G k y) hp
      have pr : ((G x k).tmod (G k k) * (G k y).tmod (G k k)).natAbs ≤ (G k k).natAbs * (G k k).natAbs := by
        rw [Int.natAbs_mul]
        exact Nat.mul_le_mul (Nat.le_of_lt r1) (Nat.le_of_lt r2)
      have t : (G k k * F' x y).natAbs ≤ N + (G k k).natAbs * (G k k).natAbs := by omega
      rw [Int.natAbs_mul] at t
      have u : (G k k).natAbs * (F' x y).natAbs ≤ (G k k).natAbs * (N + (G k k).natAbs) := by
        have : N ≤ (G k k).natAbs * N := Nat.le_mul_of_pos_left _ p0
        rw [Nat.mul_add]
        omega
      exact Nat.le_of_mul_le_mul_left u p0
/-- minors under a clear of rows: what the next size gives, and no more terms of one sign than all but one -/
theorem row_bd {n R K' k N N1 : Nat} {G : Nat → Nat → Int} (hp : G k k ≠ 0) (hp2 : 2 ≤ (G k k).natAbs) (hkR : k < R) (hkK : k < K') (h : bdM n R K' k G N) (h1 : bdM (n + 1) R K' k G N1) : bdM n R K' k (rowP G k) (N1 + (if n ≤ 2 then 1 else n - 1) * N) := by
  intro σ τ hs ht
  by_cases hi : ij n σ
  · by_cases hk : ∃ t, t < n ∧ σ t = k
    · obtain ⟨t, t1, t2⟩ := hk
      rw [rowP_thru t1 t2 hi (fun a ha => (hs a ha).1)]
      have := h σ τ hs ht
      split
      · omega
      · have : N ≤ (n - 1) * N := Nat.le_mul_of_pos_left _ (by omega)
        omega
    · have gt : ∀ a, a < n → k < σ a := fun a ha => by
        have := (hs a ha).1
        have : σ a ≠ k := fun y => hk ⟨a, ha, y⟩
        omega
      have m1 := mn_piv (σ := σ) (τ := τ) (n := n) hp
      have m2 := mn_rowP (σ := σ) (τ := τ) (n := n) hp gt
      have b := h σ τ hs ht
      have b1 := h1 (cn k σ) (cn k τ) (inr_cn hkR hs) (inr_cn hkK ht)
      have p0 : 0 < (G k k).natAbs := Int.natAbs_pos.mpr hp
      have cs := co_sum (n := n) (T := fun t => G (σ t) k * xch G n k σ τ t) (T' := fun t => (G (σ t) k).tmod (G k k) * xch G n k σ τ t) (c := (G k k).natAbs * N) (fun t _ => mul_sg (tm_sg (x := G (σ t) k) (p := G k k))) (fun t ht' => by
        rw [Int.natAbs_mul]
        have x1 := h (fun a => if a = t then k else σ a) τ (inr_ch hkR hs) ht
        rw [← xch_eq] at x1
        exact Nat.mul_le_mul (Nat.le_of_lt (tmod_lt' hp)) x1)
      generalize hY : mn (n + 1) (fun a b => G (cn k σ a) (cn k τ b)) = Y at *
      generalize hT : jsum n (fun t => G (σ t) k * xch G n k σ τ t) = sT at *
      generalize hT' : jsum n (fun t => (G (σ t) k).tmod (G k k) * xch G n k σ τ t) = sT' at *
      generalize mn n (fun a b => rowP G k (σ a) (τ b)) = X' at *
      generalize mn n (fun a b => G (σ a) (τ b)) = X at *
      have goal : (G k k * X').natAbs ≤ (G k k).natAbs * (N1 + (if n ≤ 2 then 1 else n - 1) * N) := by
        have pN1 : N1 ≤ (G k k).natAbs * N1 := Nat.le_mul_of_pos_left _ p0
        rw [m2]
        rcases cs with c1 | c1
        · -- all terms of one sign, or no more than before
          have t1 : sT.natAbs ≤ (G k k).natAbs * N + Y.natAbs := by
            have e : sT = G k k * X - Y := by rw [m1]; omega
            rw [e]
            have u := Int.natAbs_sub_le (G k k * X) Y
            rw [Int.natAbs_mul] at u
            have := Nat.mul_le_mul_left (G k k).natAbs b
            omega
          have t2 := Int.natAbs_add_le Y sT'
          have t3 : 2 * Y.natAbs ≤ (G k k).natAbs * N1 := Nat.mul_le_mul hp2 b1
          have t4 : N ≤ (if n ≤ 2 then 1 else n - 1) * N := Nat.le_mul_of_pos_left _ (by split <;> omega)
          have t5 := Nat.mul_le_mul_left (G k k).natAbs t4
          rw [Nat.mul_add]
          omega
        · have : (n - 1) * ((G k k).natAbs * N) ≤ (G k k).natAbs * ((if n ≤ 2 then 1 else n - 1) * N) := by
            rw [Nat.mul_left_comm]
            refine Nat.mul_le_mul_left _ (Nat.mul_le_mul_right _ ?_)
            split <;> omega
          have := Int.natAbs_add_le Y sT'
          rw [Nat.mul_add]
          omega
      rw [Int.natAbs_mul] at goal
      exact Nat.le_of_mul_le_mul_left goal p0
  · rw [mn_nij (A := rowP G k) hi]; exact Nat.zero_le _
theorem bdM_cg {n R K' k N : Nat} {F G : Nat → Nat → Int} (e : ∀ x y, inn R K' k x y → F x y = G x y) (h : bdM n R K' k F N) : bdM n R K' k G N := fun σ τ hs ht => by
  rw [← mn_cg (fun a b ha hb => e (σ a) (τ b) ⟨(hs a ha).1, (hs a ha).2, (ht b hb).1, (ht b hb).2⟩)]
  exact h σ τ hs ht
theorem col_is {R K' k : Nat} {H : Nat → Nat → Int} : ∀ x y, inn R K' k x y → rowP (fun i j => H j i) k y x = colP H k K' x y := fun x y h => by
  unfold rowP colP
  dsimp only
  by_cases c : k < y
  · rw [if_pos c, if_pos ⟨c, h.2.2.2⟩]
  · rw [if_neg c, if_neg (fun z => c z.1)]
theorem col_bd {n R K' k N N1 : Nat} {G : Nat → Nat → Int} (hp : G k k ≠ 0) (hp2 : 2 ≤ (G k k).natAbs) (hkR : k < R) (hkK : k < K') (h : bdM n R K' k G N) (h1 : bdM (n + 1) R K' k G N1) : bdM n R K' k (colP G k K') (N1 + (if n ≤ 2 then 1 else n - 1) * N) :=
  bdM_cg col_is (bdM_tr (row_bd (R := K') (K' := R) (G := fun i j => G j i) hp hp2 hkK hkR (bdM_tr h) (bdM_tr h1)))
theorem van_step {n R K' k : Nat} {G : Nat → Nat → Int} (hkR : k < R) (hkK : k < K') (h : bdM n R K' k G 0) : bdM n R K' k (colP (rowP G k) k K') 0 := van_bd.mp (van_col hkK (van_rowP hkR (van_bd.mpr h)))
/-- top minors of size 2 do not grow -/
theorem row_top {n R K' k N : Nat} {G : Nat → Nat → Int} (hp : G k k ≠ 0) (hkR : k < R) (hkK : k < K') (hn : n ≤ 2) (h : bdM n R K' k G N) (h1 : bdM (n + 1) R K' k G 0) : bdM n R K' k (rowP G k) N := by
  by_cases hp2 : 2 ≤ (G k k).natAbs
  · have := row_bd hp hp2 hkR hkK h h1
    rw [if_pos hn] at this
    exact bdM_mono this (by omega)
  · -- a pivot of 1 leaves no residues
    have p1 : (G k k).natAbs = 1 := by have := Int.natAbs_pos.mpr hp; omega
    intro σ τ hs ht
    by_cases hi : ij n σ
    · by_cases hk : ∃ t, t < n ∧ σ t = k
      · obtain ⟨t, t1, t2⟩ := hk
        rw [rowP_thru t1 t2 hi (fun a ha => (hs a ha).1)]
        exact h σ τ hs ht
      · have gt : ∀ a, a < n → k < σ a := fun a ha => by
          have := (hs a ha).1
          have : σ a ≠ k := fun y => hk ⟨a, ha, y⟩
          omega
        have m2 := mn_rowP (σ := σ) (τ := τ) (n := n) hp gt
        have z := h1 (cn k σ) (cn k τ) (inr_cn hkR hs) (inr_cn hkK ht)
        have z0 : mn (n + 1) (fun a b => G (cn k σ a) (cn k τ b)) = 0 := by omega
        rw [z0, Int.zero_add, ds_0 (fun t _ => by
          have := tmod_lt' (a := G (σ t) k) hp
          have : (G (σ t) k).tmod (G k k) = 0 := by omega
          rw [this, Int.zero_mul])] at m2
        rcases Int.mul_eq_zero.mp m2 with q | q
        · exact absurd q hp
        · rw [q]; exact Nat.zero_le _
    · rw [mn_nij (A := rowP G k) hi]; exact Nat.zero_le _
theorem col_top {n R K' k N : Nat} {G : Nat → Nat → Int} (hp : G k k ≠ 0) (hkR : k < R) (hkK : k < K') (hn : n ≤ 2) (h : bdM n R K' k G N) (h1 : bdM (n + 1) R K' k G 0) : bdM n R K' k (colP G k K') N :=
  bdM_cg col_is (bdM_tr (row_top (R := K') (K' := R) (G := fun i j => G j i) hp hkK hkR hn (bdM_tr h) (bdM_tr h1)))
