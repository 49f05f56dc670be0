/-! SIZES, 93.zys: the real run and the one without changes of place (no program in sight) -/
theorem clrAt_prm {n i j : Nat} {F G : Nat → Nat → Int} {σ τ : Nat → Nat} (hσ : prm n σ) (hτ : prm n τ) (e : ∀ x y, x < n → y < n → F x y = G (σ x) (τ y)) (hi : i < n) (hj : j < n) {x y : Nat} (hx : x < n) (hy : y < n) : clrAt F i j x y = clrAt G (σ i) (τ j) (σ x) (τ y) := by
  unfold clrAt
  rw [e i j hi hj, e i y hi hy, e x j hx hj, e x y hx hy]
  by_cases cx : x = i
  · subst cx
    rw [if_pos rfl, if_pos rfl]
    by_cases cy : y = j
    · subst cy
      rw [if_pos rfl, if_pos rfl]
    · rw [if_neg cy, if_neg (fun h => cy (hτ.1 y j hy hj h))]
  · rw [if_neg cx, if_neg (fun h => cx (hσ.1 x i hx hi h))]
    by_cases cy : y = j
    · subst cy
      rw [if_pos rfl, if_pos rfl]
    · rw [if_neg cy, if_neg (fun h => cy (hτ.1 y j hy hj h))]
theorem clrd_at {n i j : Nat} {F : Nat → Nat → Int} (hi : i < n) (hj : j < n) : clrd (swc (swr F 0 i) 0 j) n n 0 ↔ okAt n F i j := by
  have ei : sw2 0 i 0 = i := sw2_z.mpr rfl
  have ej : sw2 0 j 0 = j := sw2_z.mpr rfl
  have s2 : ∀ i x, sw2 0 i (sw2 0 i x) = x := fun i x => by
    unfold sw2
    split <;> split <;> (try split) <;> omega
  have r1 : ∀ x, 0 < x → rowP (swc (swr F 0 i) 0 j) 0 x 0 = (F (sw2 0 i x) j).tmod (F i j) := fun x hx => by
    rw [rowP_k hx, sw_eq]
    dsimp only
    rw [ei, ej]
  have c1 : ∀ y, 0 < y → y < n → colP (rowP (swc (swr F 0 i) 0 j) 0) 0 n 0 y = (F i (sw2 0 j y)).tmod (F i j) := fun y hy hn => by
    have := (stpF_is (R := n) (K' := n) (k := 0) (G := swc (swr F 0 i) 0 j)).2.2.1 y hy hn
    rw [this, sw_eq]
    dsimp only
    rw [ei, ej]
  constructor
  · rintro ⟨h1, h2⟩
    refine ⟨fun x hx hne => ?_, fun y hy hne => ?_⟩
    · have lt := (sw2_in (Nat.zero_le _) hi (Nat.zero_le x) hx).2
      have p : 0 < sw2 0 i x := Nat.pos_of_ne_zero fun z => hne (by rw [← s2 i x, z, ei])
      have := h1 (sw2 0 i x) p lt
      rw [r1 _ p, s2] at this
      exact this
    · have lt := (sw2_in (Nat.zero_le _) hj (Nat.zero_le y) hy).2
      have p : 0 < sw2 0 j y := Nat.pos_of_ne_zero fun z => hne (by rw [← s2 j y, z, ej])
      have := h2 (sw2 0 j y) p lt
      rw [c1 _ p lt, s2] at this
      exact this
  · rintro ⟨h1, h2⟩
    refine ⟨fun x hx hn => ?_, fun y hy hn => ?_⟩
    · rw [r1 x hx]
      exact h1 _ (sw2_in (Nat.zero_le _) hi (Nat.zero_le x) hn).2 fun z => by have := sw2_z.mp z; omega
    · rw [c1 y hy hn]
      exact h2 _ (sw2_in (Nat.zero_le _) hj (Nat.zero_le y) hn).2 fun z => by have := sw2_z.mp z; omega
/-- a state of the first stage -/
def RS (n : Nat) (A F : Nat → Nat → Int) : Prop := ∃ σ τ G, prm n σ ∧ prm n τ ∧ stg n A G ∧ ∀ x y, x < n → y < n → F x y = G (σ x) (τ y)
/-- a state behind the first stage -/
def RE (n : Nat) (A F : Nat → Nat → Int) : Prop := ∃ σ τ G b k, prm n σ ∧ prm n τ ∧ stg n A G ∧ lstAt n G b k ∧ okAt n G b k ∧ σ 0 = b ∧ τ 0 = k ∧ ∀ x y, x < n → y < n → F x y = clrAt G b k (σ x) (τ y)
theorem lstAt_prm {n i j : Nat} {F G : Nat → Nat → Int} {σ τ : Nat → Nat} (hσ : prm n σ) (hτ : prm n τ) (e : ∀ x y, x < n → y < n → F x y = G (σ x) (τ y)) (hl : isLst F n n 0 i j) : lstAt n G (σ i) (τ j) := by
  obtain ⟨⟨_, i2, _, i4⟩, i5, i6⟩ := hl
  refine ⟨hσ.2.1 i i2, hτ.2.1 j i4, by rw [← e i j i2 i4]; exact i5, fun x y hx hy hn => ?_⟩
  obtain ⟨a, ha, rfl⟩ := hσ.2.2 x hx
  obtain ⟨b, hb, rfl⟩ := hτ.2.2 y hy
  rw [← e i j i2 i4, ← e a b ha hb]
  exact (i6 a b ⟨Nat.zero_le _, ha, Nat.zero_le _, hb⟩ (by rw [e a b ha hb]; exact hn)).1
theorem okAt_prm {n i j : Nat} {F G : Nat → Nat → Int} {σ τ : Nat → Nat} (hσ : prm n σ) (hτ : prm n τ) (e : ∀ x y, x < n → y < n → F x y = G (σ x) (τ y)) (hi : i < n) (hj : j < n) : okAt n F i j ↔ okAt n G (σ i) (τ j) := by
  constructor
  · rintro ⟨h1, h2⟩
    refine ⟨fun x hx hne => ?_, fun y hy hne => ?_⟩
    · obtain ⟨a, ha, rfl⟩ := hσ.2.2 x hx
      have := h1 a ha fun z => hne (by rw [z])
      rw [e a j ha hj, e i j hi hj] at this
      exact this
    · obtain ⟨a, ha, rfl⟩ := hτ.2.2 y hy
      have := h2 a ha fun z => hne (by rw [z])
      rw [e i a hi ha, e i j hi hj] at this
      exact this
  · rintro ⟨h1, h2⟩
    refine ⟨fun x hx hne => ?_, fun y hy hne => ?_⟩
    · rw [e x j hx hj, e i j hi hj]
      exact h1 _ (hσ.2.1 x hx) fun z => hne (hσ.1 x i hx hi z)
    · rw [e i y hi hy, e i j hi hj]
      exact h2 _ (hτ.2.1 y hy) fun z => hne (hτ.1 y j hy hj z)
theorem RS_step {n i j : Nat} {A F : Nat → Nat → Int} (h : RS n A F) (hl : isLst F n n 0 i j) : (clrd (swc (swr F 0 i) 0 j) n n 0 → RE n A (stp F n 0 i j)) ∧ (¬ clrd (swc (swr F 0 i) 0 j) n n 0 → RS n A (stp F n 0 i j)) := by
  obtain ⟨σ, τ, G, hσ, hτ, hG, e⟩ := h
  have i2 := hl.1.2.1
  have i4 := hl.1.2.2.2
  have l := lstAt_prm hσ hτ e hl
  have ok := okAt_prm hσ hτ e i2 i4
  have ee : ∀ x y, x < n → y < n → stp F n 0 i j x y = clrAt G (σ i) (τ j) (σ (sw2 0 i x)) (τ (sw2 0 j y)) := fun x y hx hy => by
    rw [stp_at hy]
    exact clrAt_prm hσ hτ e i2 i4 (sw2_in (Nat.zero_le _) i2 (Nat.zero_le x) hx).2 (sw2_in (Nat.zero_le _) i4 (Nat.zero_le y) hy).2
  refine ⟨fun c => ⟨_, _, G, σ i, τ j, prm_sw i2 hσ, prm_sw i4 hτ, hG, l, ok.mp ((clrd_at i2 i4).mp c), ?_, ?_, ee⟩, fun c => ⟨_, _, clrAt G (σ i) (τ j), prm_sw i2 hσ, prm_sw i4 hτ, stg_s hG l (fun y => c ((clrd_at i2 i4).mpr (ok.mpr y))), ee⟩⟩
  · show σ (sw2 0 i 0) = σ i
    rw [sw2_z.mpr rfl]
  · show τ (sw2 0 j 0) = τ j
    rw [sw2_z.mpr rfl]
