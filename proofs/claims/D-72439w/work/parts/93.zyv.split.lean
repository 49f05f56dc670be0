/-! SIZES, 93.zyv: a matrix of two blocks: one stands (no program in sight) -/
theorem clr_un {F : Nat → Nat → Int} {b k x y : Nat} (hx : x ≠ b) (hy : y ≠ k) (h : F x k = 0 ∨ F b y = 0) : clrAt F b k x y = F x y := by
  unfold clrAt
  rw [if_neg hx, if_neg hy]
  rcases h with h | h
  · rw [h, Int.zero_tdiv, Int.zero_tmod, Int.zero_mul, Int.mul_zero, Int.sub_zero, Int.sub_zero]
  · rw [h, Int.zero_tdiv, Int.mul_zero, Int.zero_mul, Int.sub_zero, Int.sub_zero]
/-- what is not within S stands, and there is a number less than all of A -/
def kept (n : Nat) (A F : Nat → Nat → Int) (S : Nat → Prop) : Prop := (∀ x y, x < n → y < n → ¬ (S x ∧ S y) → F x y = A x y) ∧ ∃ x y, x < n ∧ y < n ∧ F x y ≠ 0 ∧ ∀ u v, u < n → v < n → A u v ≠ 0 → (F x y).natAbs < (A u v).natAbs
theorem kept_clr {n b k : Nat} {A F : Nat → Nat → Int} {S : Nat → Prop} (hS : ∀ x y, x < n → y < n → A x y ≠ 0 → (S x ↔ S y)) (h : ∀ x y, x < n → y < n → ¬ (S x ∧ S y) → F x y = A x y) (hb : b < n) (hk : k < n) (sb : S b) (sk : S k) : ∀ x y, x < n → y < n → ¬ (S x ∧ S y) → clrAt F b k x y = A x y := by
  intro x y hx hy hn
  have z : ∀ x y, x < n → y < n → ¬ (S x ↔ S y) → A x y = 0 := fun x y hx hy c => Classical.byContradiction fun d => c (hS x y hx hy d)
  by_cases sx : S x
  · have sy : ¬ S y := fun c => hn ⟨sx, c⟩
    have yk : y ≠ k := fun c => sy (by rw [c]; exact sk)
    have f0 : F b y = 0 := by rw [h b y hb hy (fun c => sy c.2)]; exact z b y hb hy (fun c => sy (c.mp sb))
    by_cases xb : x = b
    · have e : clrAt F b k x y = (F b y).tmod (F b k) := by unfold clrAt; rw [if_pos xb, if_neg yk]
      rw [e, f0, Int.zero_tmod, xb]
      exact (z b y hb hy (fun c => sy (c.mp sb))).symm
    · rw [clr_un xb yk (.inr f0)]
      exact h x y hx hy hn
  · have xb : x ≠ b := fun c => sx (by rw [c]; exact sb)
    have f0 : F x k = 0 := by rw [h x k hx hk (fun c => sx c.1)]; exact z x k hx hk (fun c => sx (c.mpr sk))
    by_cases yk : y = k
    · have e : clrAt F b k x y = (F x k).tmod (F b k) := by unfold clrAt; rw [if_neg xb, if_pos yk]
      rw [e, f0, Int.zero_tmod, yk]
      exact (z x k hx hk (fun c => sx (c.mpr sk))).symm
    · rw [clr_un xb yk (.inl f0)]
      exact h x y hx hy hn
/-- a failing step leaves a number less than its pivot -/
theorem fail_at {n b k : Nat} {F : Nat → Nat → Int} (hl : lstAt n F b k) (ho : ¬ okAt n F b k) : ∃ x y, x < n ∧ y < n ∧ clrAt F b k x y ≠ 0 ∧ (clrAt F b k x y).natAbs < (F b k).natAbs := by
  have p0 := Int.natAbs_pos.mpr hl.2.2.1
  have lt : ∀ x : Int, (x.tmod (F b k)).natAbs < (F b k).natAbs := fun x => by
    rw [Int.natAbs_tmod]
    exact Nat.mod_lt _ p0
  refine Classical.byContradiction fun hn => ho ⟨fun x hx xb => Classical.byContradiction fun z => ?_, fun y hy yk => Classical.byContradiction fun z => ?_⟩
  · have e : clrAt F b k x k = (F x k).tmod (F b k) := by unfold clrAt; rw [if_neg xb, if_pos rfl]
    exact hn ⟨x, k, hx, hl.2.1, by rw [e]; exact z, by rw [e]; exact lt _⟩
  · have e : clrAt F b k b y = (F b y).tmod (F b k) := by unfold clrAt; rw [if_pos rfl, if_neg yk]
    exact hn ⟨b, y, hl.1, hy, by rw [e]; exact z, by rw [e]; exact lt _⟩
theorem kept_first {n b k : Nat} {A : Nat → Nat → Int} {S : Nat → Prop} (hS : ∀ x y, x < n → y < n → A x y ≠ 0 → (S x ↔ S y)) (hl : lstAt n A b k) (ho : ¬ okAt n A b k) (sb : S b) : kept n A (clrAt A b k) S := by
  have sk : S k := (hS b k hl.1 hl.2.1 hl.2.2.1).mp sb
  obtain ⟨x, y, hx, hy, h1, h2⟩ := fail_at hl ho
  exact ⟨kept_clr hS (fun _ _ _ _ _ => rfl) hl.1 hl.2.1 sb sk, x, y, hx, hy, h1, fun u v hu hv h0 => Nat.lt_of_lt_of_le h2 (hl.2.2.2 u v hu hv h0)⟩
theorem kept_in {n b k : Nat} {A F : Nat → Nat → Int} {S : Nat → Prop} (h : kept n A F S) (hl : lstAt n F b k) : S b ∧ S k := Classical.byContradiction fun c => by
  obtain ⟨h1, x, y, hx, hy, h0, h2⟩ := h
  have e := h1 b k hl.1 hl.2.1 c
  have a := hl.2.2.2 x y hx hy h0
  have := h2 b k hl.1 hl.2.1 (by rw [← e]; exact hl.2.2.1)
  rw [e] at a
  omega
theorem kept_next {n b k : Nat} {A F : Nat → Nat → Int} {S : Nat → Prop} (hS : ∀ x y, x < n → y < n → A x y ≠ 0 → (S x ↔ S y)) (h : kept n A F S) (hl : lstAt n F b k) (ho : ¬ okAt n F b k) : kept n A (clrAt F b k) S := by
  obtain ⟨sb, sk⟩ := kept_in h hl
  obtain ⟨x, y, hx, hy, h1, h2⟩ := fail_at hl ho
  obtain ⟨k1, x', y', hx', hy', h0, k2⟩ := h
  exact ⟨kept_clr hS k1 hl.1 hl.2.1 sb sk, x, y, hx, hy, h1, fun u v hu hv ha => Nat.lt_trans (Nat.lt_of_lt_of_le h2 (hl.2.2.2 x' y' hx' hy' h0)) (k2 u v hu hv ha)⟩
/-- of two blocks one stands whole, up to the end of the first stage -/
theorem split_stg {n : Nat} {A F : Nat → Nat → Int} {S : Nat → Prop} (hS : ∀ x y, x < n → y < n → A x y ≠ 0 → (S x ↔ S y)) (h : stg n A F) : F = A ∨ kept n A F S ∨ kept n A F (fun x => ¬ S x) := by
  have hS' : ∀ x y, x < n → y < n → A x y ≠ 0 → (¬ S x ↔ ¬ S y) := fun x y hx hy h0 => not_congr (hS x y hx hy h0)
  refine h (fun F => F = A ∨ kept n A F S ∨ kept n A F (fun x => ¬ S x)) (.inl rfl) fun F b k hF hl ho => ?_
  rcases hF with e | hF | hF
  · subst e
    by_cases sb : S b
    · exact .inr (.inl (kept_first hS hl ho sb))
    · exact .inr (.inr (kept_first hS' hl ho sb))
  · exact .inr (.inl (kept_next hS hF hl ho))
  · exact .inr (.inr (kept_next hS' hF hl ho))
/-- so the part behind the first stage has a number of A -/
theorem split_end {n b k : Nat} {A F : Nat → Nat → Int} {S : Nat → Prop} (hS : ∀ x y, x < n → y < n → A x y ≠ 0 → (S x ↔ S y)) (n1 : ∃ x y, x < n ∧ y < n ∧ S x ∧ A x y ≠ 0) (n2 : ∃ x y, x < n ∧ y < n ∧ ¬ S x ∧ A x y ≠ 0) (h : stg n A F) (hl : lstAt n F b k) : ∃ x y, x < n ∧ y < n ∧ x ≠ b ∧ y ≠ k ∧ A x y ≠ 0 ∧ clrAt F b k x y = A x y := by
  have fin : ∀ S : Nat → Prop, (∀ x y, x < n → y < n → A x y ≠ 0 → (S x ↔ S y)) → (∃ x y, x < n ∧ y < n ∧ ¬ S x ∧ A x y ≠ 0) → (∀ x y, x < n → y < n → ¬ (S x ∧ S y) → F x y = A x y) → S b → S k → ∃ x y, x < n ∧ y < n ∧ x ≠ b ∧ y ≠ k ∧ A x y ≠ 0 ∧ clrAt F b k x y = A x y := by
    intro S hS n2 hk sb sk
    obtain ⟨x, y, hx, hy, sx, h0⟩ := n2
    have sy : ¬ S y := fun c => sx ((hS x y hx hy h0).mpr c)
    exact ⟨x, y, hx, hy, fun c => sx (by rw [c]; exact sb), fun c => sy (by rw [c]; exact sk), h0, kept_clr hS hk hl.1 hl.2.1 sb sk x y hx hy (fun c => sx c.1)⟩
  have hS' : ∀ x y, x < n → y < n → A x y ≠ 0 → (¬ S x ↔ ¬ S y) := fun x y hx hy h0 => not_congr (hS x y hx hy h0)
  have n1' : ∃ x y, x < n ∧ y < n ∧ ¬ ¬ S x ∧ A x y ≠ 0 := by
    obtain ⟨x, y, hx, hy, sx, h0⟩ := n1
    exact ⟨x, y, hx, hy, fun c => c sx, h0⟩
  rcases split_stg hS h with e | hF | hF
  · subst e
    have s := hS b k hl.1 hl.2.1 hl.2.2.1
    by_cases sb : S b
    · exact fin S hS n2 (fun _ _ _ _ _ => rfl) sb (s.mp sb)
    · exact fin (fun x => ¬ S x) hS' n1' (fun _ _ _ _ _ => rfl) sb (fun c => sb (s.mpr c))
  · obtain ⟨sb, sk⟩ := kept_in hF hl
    exact fin S hS n2 hF.1 sb sk
  · obtain ⟨sb, sk⟩ := kept_in hF hl
    exact fin (fun x => ¬ S x) hS' n1' hF.1 sb sk
