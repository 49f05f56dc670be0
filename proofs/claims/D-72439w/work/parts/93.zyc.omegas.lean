/-! SIZES, 93.zyc: the bounds of rows and columns under a step (no program in sight) -/
/-- the bound o l of row l stands: its numbers are within, and other than the least; or the least is at most half of it -/
def rowOK (R K' k : Nat) (F : Nat → Nat → Int) (o : Nat → Nat) (l : Nat) : Prop := (∀ y, k ≤ y → y < K' → (F l y).natAbs ≤ o l ∧ (F l y ≠ 0 → l = k ∨ ∃ a b, inn R K' k a b ∧ F a b ≠ 0 ∧ (F a b).natAbs < (F l y).natAbs)) ∨ ∃ a b, inn R K' k a b ∧ F a b ≠ 0 ∧ 2 * (F a b).natAbs ≤ o l
/-- the same with the least number at (k, k) -/
def rowG (K' k : Nat) (G : Nat → Nat → Int) (o : Nat → Nat) (l : Nat) : Prop := ((∀ y, k ≤ y → y < K' → (G l y).natAbs ≤ o l) ∧ (G l k ≠ 0 → (G k k).natAbs < (G l k).natAbs)) ∨ 2 * (G k k).natAbs ≤ o l
/-- what a step makes of G -/
def stpF (R K' k : Nat) (G F' : Nat → Nat → Int) : Prop := F' k k = G k k ∧ (∀ x, k < x → x < R → F' x k = (G x k).tmod (G k k)) ∧ (∀ y, k < y → y < K' → F' k y = (G k y).tmod (G k k)) ∧ (∀ x y, k < x → x < R → k < y → y < K' → G x k = 0 → F' x y = G x y) ∧ ∀ x y, k < x → x < R → k < y → y < K' → G k y = 0 → F' x y = G x y
theorem stpF_tr {R K' k : Nat} {G F' : Nat → Nat → Int} (h : stpF R K' k G F') : stpF K' R k (fun i j => G j i) (fun i j => F' j i) := ⟨h.1, h.2.2.1, h.2.1, fun x y a b c d e => h.2.2.2.2 y x c d a b e, fun x y a b c d e => h.2.2.2.1 y x c d a b e⟩
theorem stpF_is {R K' k : Nat} {G : Nat → Nat → Int} : stpF R K' k G (colP (rowP G k) k K') := by
  refine ⟨?_, fun x hx _ => ?_, fun y hy hK => colP_k hy hK, fun x y hx _ hy hK e => ?_, fun x y hx _ hy hK e => ?_⟩
  · unfold colP
    rw [if_neg (fun z => Nat.lt_irrefl k z.1), rowP_row]
  · have : colP (rowP G k) k K' x k = rowP G k x k := by
      unfold colP
      rw [if_neg (fun z => Nat.lt_irrefl k z.1)]
    rw [this, rowP_k hx]
  · unfold colP rowP
    rw [if_pos ⟨hy, hK⟩, if_pos hx, if_pos hx, e]
    have z : (0 : Int).tdiv (G k k) = 0 := Int.zero_tdiv _
    rw [z]
    grind
  · unfold colP
    rw [if_pos ⟨hy, hK⟩, rowP_row, rowP_row, e]
    have z : (0 : Int).tdiv (G k k) = 0 := Int.zero_tdiv _
    rw [z]
    unfold rowP
    rw [if_pos hx, e]
    grind
theorem half_res {x p : Int} {o : Nat} (hp : p ≠ 0) (h : (x.natAbs ≤ o ∧ (x ≠ 0 → p.natAbs < x.natAbs)) ∨ 2 * p.natAbs ≤ o) : 2 * (x.tmod p).natAbs ≤ o := by
  have l := tmod_lt' (a := x) hp
  rcases h with ⟨h1, h2⟩ | h
  · by_cases c : x = 0
    · subst c
      rw [Int.zero_tmod]
      exact Nat.zero_le _
    · have h3 := h2 c
      have p0 : 0 < p.natAbs := Int.natAbs_pos.mpr hp
      have : x.natAbs % p.natAbs ≤ x.natAbs - p.natAbs := by
        rw [Nat.mod_eq_sub_mod (Nat.le_of_lt h3)]
        exact Nat.mod_le _ _
      rw [Int.natAbs_tmod] at l ⊢
      omega
  · omega
theorem rowG_res {K' k l : Nat} {G : Nat → Nat → Int} {o : Nat → Nat} (hp : G k k ≠ 0) (hk : k < K') (h : rowG K' k G o l) : 2 * ((G l k).tmod (G k k)).natAbs ≤ o l := by
  refine half_res hp ?_
  rcases h with ⟨a, b⟩ | h
  · exact .inl ⟨a k (Nat.le_refl _) hk, b⟩
  · exact .inr h
theorem ok_next {R K' k : Nat} {G F' : Nat → Nat → Int} {o : Nat → Nat} (h : stpF R K' k G F') (hkR : k < R) (hkK : k < K') (hp : G k k ≠ 0) (hmin : ∀ x y, inn R K' k x y → G x y ≠ 0 → (G k k).natAbs ≤ (G x y).natAbs) (hf : ∃ a b, inn R K' k a b ∧ F' a b ≠ 0 ∧ (F' a b).natAbs < (G k k).natAbs) (hg : ∀ l, k < l → l < R → rowG K' k G o l) : ∀ l, k ≤ l → l < R → rowOK R K' k F' (upN o k (G k k).natAbs) l := by
  obtain ⟨f0, f1, f2, f3, f4⟩ := h
  obtain ⟨a, b, hi, hab, hlt⟩ := hf
  intro l hl hlR
  by_cases c : l = k
  · subst c
    left
    intro y hy hyK
    refine ⟨?_, fun _ => .inl rfl⟩
    unfold upN
    rw [if_pos rfl]
    by_cases e : y = l
    · subst e; rw [f0]; exact Nat.le_refl _
    · rw [f2 y (by omega) hyK]
      exact Nat.le_of_lt (tmod_lt' hp)
  · have hkl : k < l := by omega
    have eo : upN o k (G k k).natAbs l = o l := by unfold upN; rw [if_neg c]
    unfold rowOK
    rw [eo]
    rcases hg l hkl hlR with ⟨g1, g2⟩ | g
    · by_cases z : G l k = 0
      · left
        have same : ∀ y, k ≤ y → y < K' → F' l y = G l y := fun y hy hyK => by
          by_cases e : y = k
          · subst e; rw [f1 l hkl hlR, z, Int.zero_tmod]
          · exact f3 l y hkl hlR (by omega) hyK z
        intro y hy hyK
        rw [same y hy hyK]
        refine ⟨g1 y hy hyK, fun n0 => .inr ⟨a, b, hi, hab, ?_⟩⟩
        have := hmin l y ⟨hl, hlR, hy, hyK⟩ n0
        omega
      · right
        have g3 := g2 z
        have g4 := g1 k (Nat.le_refl _) hkK
        by_cases r : (G l k).tmod (G k k) = 0
        · refine ⟨a, b, hi, hab, ?_⟩
          have : (G l k).natAbs % (G k k).natAbs = 0 := by rw [← Int.natAbs_tmod, r]; rfl
          have p0 : 0 < (G k k).natAbs := Int.natAbs_pos.mpr hp
          obtain ⟨m, hm⟩ := Nat.dvd_of_mod_eq_zero this
          have m2 : 2 ≤ m := by
            rcases Nat.lt_or_ge m 2 with q | q
            · rcases (show m = 0 ∨ m = 1 by omega) with rfl | rfl
              · rw [Nat.mul_zero] at hm; omega
              · rw [Nat.mul_one] at hm; omega
            · exact q
          have := Nat.mul_le_mul_left (G k k).natAbs m2
          omega
        · refine ⟨l, k, ⟨hl, hlR, Nat.le_refl _, hkK⟩, by rw [f1 l hkl hlR]; exact r, ?_⟩
          rw [f1 l hkl hlR]
          exact half_res hp (.inl ⟨g4, g2⟩)
    · right
      exact ⟨a, b, hi, hab, by omega⟩
/-- a change of two places -/
def sw2 (k i x : Nat) : Nat := if x = k then i else if x = i then k else x
theorem sw2_in {k i x R : Nat} (hi : k ≤ i) (hiR : i < R) (hx : k ≤ x) (hxR : x < R) : k ≤ sw2 k i x ∧ sw2 k i x < R := by
  unfold sw2
  split
  · exact ⟨hi, hiR⟩
  · split
    · exact ⟨Nat.le_refl _, by omega⟩
    · exact ⟨hx, hxR⟩
theorem sw_eq {F : Nat → Nat → Int} {k i j : Nat} : swc (swr F k i) k j = fun x y => F (sw2 k i x) (sw2 k j y) := rfl
theorem gr_of {R K' k i j : Nat} {F : Nat → Nat → Int} {o : Nat → Nat} (hl : isLst F R K' k i j) (h : ∀ l, k ≤ l → l < R → rowOK R K' k F o l) : (∀ l, k < l → l < R → rowG K' k (swc (swr F k i) k j) (fun x => o (sw2 k i x)) l) ∧ (F i j).natAbs ≤ o i := by
  obtain ⟨⟨i1, i2, i3, i4⟩, i5, i6⟩ := hl
  have g0 : (swc (swr F k i) k j) k k = F i j := by
    rw [sw_eq]
    dsimp only
    unfold sw2
    rw [if_pos rfl, if_pos rfl]
  constructor
  · intro l hkl hlR
    obtain ⟨s1, s2⟩ := sw2_in i1 i2 (Nat.le_of_lt hkl) hlR
    unfold rowG
    rw [g0]
    have e : ∀ y, swc (swr F k i) k j l y = F (sw2 k i l) (sw2 k j y) := fun y => rfl
    have e0 : sw2 k j k = j := by unfold sw2; rw [if_pos rfl]
    rcases h _ s1 s2 with a | ⟨a, b, hi, h0, h1⟩
    · left
      refine ⟨fun y hy hyK => ?_, fun n0 => ?_⟩
      · obtain ⟨t1, t2⟩ := sw2_in i3 i4 hy hyK
        rw [e]
        exact (a _ t1 t2).1
      · rw [e, e0] at n0 ⊢
        rcases (a j i3 i4).2 n0 with q | ⟨x, y, hi, h0, h1⟩
        · -- the top row
          have hik : l = i := by
            unfold sw2 at q
            by_cases c1 : l = k
            · omega
            · rw [if_neg c1] at q
              by_cases c2 : l = i
              · exact c2
              · rw [if_neg c2] at q; omega
          rw [q] at n0 ⊢
          exact (i6 k j ⟨Nat.le_refl _, by omega, i3, i4⟩ n0).2 (.inl (by omega))
        · have := (i6 x y hi h0).1
          omega
    · right
      have := (i6 a b hi h0).1
      show 2 * (F i j).natAbs ≤ o (sw2 k i l)
      omega
  · rcases h i i1 i2 with a | ⟨a, b, hi, h0, h1⟩
    · exact (a j i3 i4).1
    · have := (i6 a b hi h0).1
      omega
