/-! SIZES, 93.zyr: the first stage without changes of place (no program in sight) -/
/-- a clear at (b, k) -/
def clrAt (F : Nat → Nat → Int) (b k : Nat) : Nat → Nat → Int := fun x y =>
  if x = b then (if y = k then F b k else (F b y).tmod (F b k))
  else if y = k then (F x k).tmod (F b k)
  else F x y - (F x k).tdiv (F b k) * F b y - (F b y).tdiv (F b k) * (F x k).tmod (F b k)
theorem tm_eq {x p : Int} : x - x.tdiv p * p = x.tmod p := by
  have := Int.tmod_def x p
  rw [this, Int.mul_comm]
theorem sw2_z {i x : Nat} : sw2 0 i x = i ↔ x = 0 := by
  unfold sw2
  split
  · rename_i c; exact ⟨fun _ => c, fun _ => rfl⟩
  · split
    · rename_i c d; omega
    · rename_i c d; omega
theorem stp_at {K' i j : Nat} {F : Nat → Nat → Int} {x y : Nat} (hy : y < K') : stp F K' 0 i j x y = clrAt F i j (sw2 0 i x) (sw2 0 j y) := by
  have ei : sw2 0 i 0 = i := sw2_z.mpr rfl
  have ej : sw2 0 j 0 = j := sw2_z.mpr rfl
  unfold stp clrAt
  rw [sw_eq]
  unfold colP rowP
  dsimp only
  rw [ei, ej]
  by_cases cx : x = 0
  · subst cx
    rw [ei, if_pos rfl]
    by_cases cy : y = 0
    · subst cy
      rw [ej, if_pos rfl, if_neg (fun h => by omega), if_neg (Nat.lt_irrefl 0)]
    · rw [if_neg (fun h => cy (sw2_z.mp h)), if_pos ⟨by omega, hy⟩]
      simp only [Nat.lt_irrefl, if_false]
      exact tm_eq
  · rw [if_neg (fun h => cx (sw2_z.mp h))]
    by_cases cy : y = 0
    · subst cy
      rw [ej, if_pos rfl, if_neg (fun h => by omega), if_pos (by omega), tm_eq]
    · rw [if_neg (fun h => cy (sw2_z.mp h)), if_pos ⟨by omega, hy⟩, if_pos (by omega), if_neg (Nat.lt_irrefl 0), if_neg (Nat.lt_irrefl 0), if_pos (by omega), tm_eq]
/-- the least of all numbers other than 0 stands at (b, k) -/
def lstAt (n : Nat) (F : Nat → Nat → Int) (b k : Nat) : Prop := b < n ∧ k < n ∧ F b k ≠ 0 ∧ ∀ x y, x < n → y < n → F x y ≠ 0 → (F b k).natAbs ≤ (F x y).natAbs
def okAt (n : Nat) (F : Nat → Nat → Int) (b k : Nat) : Prop := (∀ x, x < n → x ≠ b → (F x k).tmod (F b k) = 0) ∧ ∀ y, y < n → y ≠ k → (F b y).tmod (F b k) = 0
/-- the states of the first stage, up to changes of place -/
def stg (n : Nat) (A : Nat → Nat → Int) (F : Nat → Nat → Int) : Prop := ∀ P : (Nat → Nat → Int) → Prop, P A → (∀ F b k, P F → lstAt n F b k → ¬ okAt n F b k → P (clrAt F b k)) → P F
theorem stg_0 {n : Nat} {A : Nat → Nat → Int} : stg n A A := fun _ h _ => h
theorem stg_s {n b k : Nat} {A F : Nat → Nat → Int} (h : stg n A F) (hl : lstAt n F b k) (hn : ¬ okAt n F b k) : stg n A (clrAt F b k) := fun P h0 hs => hs F b k (h P h0 hs) hl hn
/-- changed places -/
def prm (n : Nat) (σ : Nat → Nat) : Prop := ij n σ ∧ (∀ a, a < n → σ a < n) ∧ ∀ x, x < n → ∃ a, a < n ∧ σ a = x
theorem prm_sw {n i : Nat} {σ : Nat → Nat} (hi : i < n) (h : prm n σ) : prm n (fun x => σ (sw2 0 i x)) := by
  have s2 : ∀ x, sw2 0 i (sw2 0 i x) = x := fun x => by
    unfold sw2
    split <;> split <;> (try split) <;> omega
  have lt : ∀ a, a < n → sw2 0 i a < n := fun a ha => (sw2_in (Nat.zero_le _) hi (Nat.zero_le a) ha).2
  refine ⟨fun a b ha hb e => ?_, fun a ha => h.2.1 _ (lt a ha), fun x hx => ?_⟩
  · have := congrArg (sw2 0 i) (h.1 _ _ (lt a ha) (lt b hb) e)
    rw [s2, s2] at this
    exact this
  · obtain ⟨a, ha, e⟩ := h.2.2 x hx
    exact ⟨sw2 0 i a, lt a ha, by show σ (sw2 0 i (sw2 0 i a)) = x; rw [s2]; exact e⟩
theorem prm_id {n : Nat} : prm n (fun x => x) := ⟨fun _ _ _ _ h => h, fun _ h => h, fun x h => ⟨x, h, rfl⟩⟩
