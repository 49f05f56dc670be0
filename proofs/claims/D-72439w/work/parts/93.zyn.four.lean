/-! SIZES, 93.zyn: no more than four rows and columns other than 0 (no program in sight) -/
/-- of five rows one is 0, and its bound is 1 -/
def Z4 (R K' k : Nat) (F : Nat → Nat → Int) (o : Nat → Nat) : Prop := ∀ ρ, inr k R 5 ρ → ij 5 ρ → ∃ a, a < 5 ∧ o (ρ a) = 1 ∧ ∀ y, k ≤ y → y < K' → F (ρ a) y = 0
theorem npr_img : ∀ (m : Nat) {n : Nat} {f : Nat → Nat} {ρ : Nat → Nat}, ij m ρ → (∀ a, a < m → ρ a < n) → (∀ l, l < n → (∀ a, a < m → ρ a ≠ l) → f l = 1) → npr n f = npr m (fun a => f (ρ a)) := by
  intro m
  induction m with
  | zero =>
    intro n f ρ _ _ h
    rw [npr_cg (g := fun _ => 1) (fun k hk => h k hk (fun a ha => by omega)), npr_c, Nat.one_pow]
    rfl
  | succ m ih =>
    intro n f ρ hi hr h
    have u := npr_up (n := n) (t := ρ m) (x := 1) (f := f) (hr m (by omega))
    rw [Nat.mul_one] at u
    rw [← u]
    show _ = npr m (fun a => f (ρ a)) * f (ρ m)
    congr 1
    rw [ih (f := fun a => if a = ρ m then 1 else f a) (ρ := ρ) (fun a b ha hb => hi a b (by omega) (by omega)) (fun a ha => hr a (by omega)) (fun l hl hn => ?_)]
    · exact npr_cg fun a ha => by
        rw [if_neg (fun y => by have := hi a m (by omega) (by omega) y; omega)]
    · split
      · rfl
      · rename_i c
        exact h l hl fun a ha => by
          by_cases e : a = m
          · rw [e]; exact fun y => c y.symm
          · exact hn a (by omega)
theorem wt_img {m k R : Nat} {o : Nat → Nat} {ρ : Nat → Nat} (hi : ij m ρ) (hr : inr k R m ρ) (h : ∀ l, k ≤ l → l < R → (∀ a, a < m → ρ a ≠ l) → o l = 1) : Wt k R o = npr m (fun a => o (ρ a)) := by
  unfold Wt
  rw [npr_img m (ρ := fun a => ρ a - k) (fun a b ha hb e => hi a b ha hb (by have := hr a ha; have := hr b hb; simp only at e; omega)) (fun a ha => by have := hr a ha; show ρ a - k < R - k; omega) (fun l hl hn => h (k + l) (by omega) (by omega) fun a ha y => hn a ha (by show ρ a - k = l; omega))]
  exact npr_cg fun a ha => by
    have := hr a ha
    show o (k + (ρ a - k)) = o (ρ a)
    rw [show k + (ρ a - k) = ρ a by omega]
/-- rows l and k before the others -/
theorem cn_ij2 {n k l : Nat} {σ : Nat → Nat} (h : ij n σ) (hk : ∀ a, a < n → σ a ≠ k) (hl : ∀ a, a < n → σ a ≠ l) (hkl : k ≠ l) : ij (n + 1 + 1) (cn l (cn k σ)) := cn_ij (cn_ij h hk) fun a ha => by
  unfold cn
  split
  · exact hkl
  · exact hl (a - 1) (by omega)
theorem Z4_out {R K' k : Nat} {F : Nat → Nat → Int} {o : Nat → Nat} (h : Z4 R K' k F o) {ρ : Nat → Nat} (hr : inr k R 4 ρ) (hi : ij 4 ρ) (hn : ∀ a, a < 4 → ∃ y, k ≤ y ∧ y < K' ∧ F (ρ a) y ≠ 0) : ∀ l, k ≤ l → l < R → (∀ a, a < 4 → ρ a ≠ l) → o l = 1 ∧ ∀ y, k ≤ y → y < K' → F l y = 0 := by
  intro l hl hR hout
  obtain ⟨a, a5, a1, a0⟩ := h (cn l ρ) (fun a ha => by
    unfold cn
    split
    · exact ⟨hl, hR⟩
    · exact hr (a - 1) (by omega)) (cn_ij hi hout)
  unfold cn at a1 a0
  by_cases c : a = 0
  · rw [if_pos c] at a1 a0
    exact ⟨a1, a0⟩
  · rw [if_neg c] at a0
    obtain ⟨y, y1, y2, y3⟩ := hn (a - 1) (by omega)
    exact absurd (a0 y y1 y2) y3
/-- the weights of all rows, by those of four -/
theorem Z4_wt {R K' k : Nat} {F : Nat → Nat → Int} {o : Nat → Nat} (h : Z4 R K' k F o) (hk : k < R) (hkn : ∃ y, k ≤ y ∧ y < K' ∧ F k y ≠ 0) {σ : Nat → Nat} (hr : inr k R 3 σ) (hi : ij 3 σ) (hσ : ∀ a, a < 3 → σ a ≠ k) (hn : ∀ a, a < 3 → ∃ y, k ≤ y ∧ y < K' ∧ F (σ a) y ≠ 0) : Wt k R o = o k * npr 3 (fun a => o (σ a)) := by
  have hr4 : inr k R 4 (cn k σ) := inr_cn hk hr
  have hi4 : ij 4 (cn k σ) := cn_ij hi hσ
  rw [wt_img hi4 hr4 (fun l a b c => (Z4_out h hr4 hi4 (fun a ha => by
    unfold cn
    split
    · exact hkn
    · exact hn (a - 1) (by omega)) l a b c).1)]
  show 1 * o (cn k σ 0) * o (cn k σ 1) * o (cn k σ 2) * o (cn k σ 3) = o k * (1 * o (σ 0) * o (σ 1) * o (σ 2))
  have e0 : cn k σ 0 = k := rfl
  have e1 : cn k σ 1 = σ 0 := rfl
  have e2 : cn k σ 2 = σ 1 := rfl
  have e3 : cn k σ 3 = σ 2 := rfl
  rw [e0, e1, e2, e3]
  ac_rfl
theorem Z4_wt' {R K' k w : Nat} {F : Nat → Nat → Int} {o : Nat → Nat} (h : Z4 R K' k F o) (w0 : 0 < w) (ho : ∀ l, k ≤ l → l < R → o l ≤ w) {σ : Nat → Nat} (hr : inr k R 3 σ) (hi : ij 3 σ) (hn : ∀ a, a < 3 → ∃ y, k ≤ y ∧ y < K' ∧ F (σ a) y ≠ 0) : Wt k R o ≤ w * npr 3 (fun a => o (σ a)) := by
  by_cases c : ∃ l, k ≤ l ∧ l < R ∧ (∀ a, a < 3 → σ a ≠ l) ∧ o l ≠ 1
  · obtain ⟨l, l1, l2, l3, l4⟩ := c
    have hr4 : inr k R 4 (cn l σ) := fun a ha => by
      unfold cn
      split
      · exact ⟨l1, l2⟩
      · exact hr (a - 1) (by omega)
    have hi4 : ij 4 (cn l σ) := cn_ij hi l3
    have out : ∀ m, k ≤ m → m < R → (∀ a, a < 4 → cn l σ a ≠ m) → o m = 1 := fun m m1 m2 m3 => by
      obtain ⟨a, a5, a1, a0⟩ := h (cn m (cn l σ)) (fun a ha => by
        unfold cn
        split
        · exact ⟨m1, m2⟩
        · exact hr4 (a - 1) (by omega)) (cn_ij hi4 m3)
      rcases (show a = 0 ∨ a = 1 ∨ 2 ≤ a by omega) with e | e | e
      · rw [e] at a1; exact a1
      · rw [e] at a1; exact absurd a1 l4
      · have e2 : cn m (cn l σ) a = σ (a - 2) := by
          unfold cn
          rw [if_neg (by omega), if_neg (by omega)]
          rfl
        rw [e2] at a0
        obtain ⟨y, y1, y2, y3⟩ := hn (a - 2) (by omega)
        exact absurd (a0 y y1 y2) y3
    rw [wt_img hi4 hr4 out]
    show 1 * o (cn l σ 0) * o (cn l σ 1) * o (cn l σ 2) * o (cn l σ 3) ≤ w * (1 * o (σ 0) * o (σ 1) * o (σ 2))
    have e0 : cn l σ 0 = l := rfl
    have e1 : cn l σ 1 = σ 0 := rfl
    have e2 : cn l σ 2 = σ 1 := rfl
    have e3 : cn l σ 3 = σ 2 := rfl
    rw [e0, e1, e2, e3, show 1 * o l * o (σ 0) * o (σ 1) * o (σ 2) = o l * (1 * o (σ 0) * o (σ 1) * o (σ 2)) by ac_rfl]
    exact Nat.mul_le_mul_right _ (ho l l1 l2)
  · rw [wt_img hi hr (fun l l1 l2 l3 => Classical.byContradiction fun l4 => c ⟨l, l1, l2, l3, l4⟩)]
    exact Nat.le_mul_of_pos_left _ w0
/-- 4-minors stand under a clear of rows -/
theorem sq4_row {R K' k N : Nat} {G : Nat → Nat → Int} {o : Nat → Nat} (hz : Z4 R K' k G o) (hkR : k < R) (hkK : k < K') (hp : G k k ≠ 0) (h : bdM 4 R K' k G N) : bdM 4 R K' k (rowP G k) N := by
  intro σ τ hs ht
  by_cases hi : ij 4 σ
  · by_cases hk : ∃ t, t < 4 ∧ σ t = k
    · obtain ⟨t, t1, t2⟩ := hk
      rw [rowP_thru t1 t2 hi (fun a ha => (hs a ha).1)]
      exact h σ τ hs ht
    · obtain ⟨a, a5, a1, a0⟩ := hz (cn k σ) (inr_cn hkR hs) (cn_ij hi fun a ha y => hk ⟨a, ha, y⟩)
      have an : a ≠ 0 := fun y => by
        rw [y] at a0
        exact hp (a0 k (Nat.le_refl _) hkK)
      have e : cn k σ a = σ (a - 1) := by unfold cn; rw [if_neg an]
      rw [e] at a0
      rw [mn_row0 (t := a - 1) (by omega) (fun j hj => by
        have hne : k < σ (a - 1) := by
          have := (hs (a - 1) (by omega)).1
          have : σ (a - 1) ≠ k := fun y => hk ⟨a - 1, by omega, y⟩
          omega
        show rowP G k (σ (a - 1)) (τ j) = 0
        unfold rowP
        rw [if_pos hne, a0 k (Nat.le_refl _) hkK, a0 (τ j) (ht j hj).1 (ht j hj).2, Int.zero_tdiv, Int.zero_mul, Int.sub_zero])]
      exact Nat.zero_le _
  · rw [mn_nij (A := rowP G k) hi]; exact Nat.zero_le _
theorem sq4_col {R K' k N : Nat} {G : Nat → Nat → Int} {o : Nat → Nat} (hz : Z4 K' R k (fun i j => G j i) o) (hkR : k < R) (hkK : k < K') (hp : G k k ≠ 0) (h : bdM 4 R K' k G N) : bdM 4 R K' k (colP G k K') N :=
  bdM_cg col_is (bdM_tr (sq4_row (G := fun i j => G j i) hz hkK hkR hp (bdM_tr h)))
