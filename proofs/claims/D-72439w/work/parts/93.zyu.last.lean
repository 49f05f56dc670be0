/-! SIZES, 93.zyu: the last move of the first stage leaves a small line (no program in sight) -/
theorem line_of {n b k y N : Nat} {F : Nat → Nat → Int} (hb : b < n) (hp : F b k ≠ 0) (ho : okAt n F b k) (hy : y ≠ k) (h : colN n F k y N) : ∀ l, l < n → l ≠ b → (clrAt F b k l y).natAbs ≤ N := by
  intro l hl hne
  have z := ho.1 l hl hne
  have t := tm_eq (x := F l k) (p := F b k)
  have e : F b k * clrAt F b k l y = F b k * F l y - F b y * F l k := by
    unfold clrAt
    rw [if_neg hne, if_neg hy, z]
    rw [z] at t
    generalize (F l k).tdiv (F b k) = u at *
    have : F l k = u * F b k := by omega
    rw [this]
    grind
  have hm := h b l hb hl
  rw [← e, Int.natAbs_mul] at hm
  have p0 := Int.natAbs_pos.mpr hp
  exact Nat.le_trans (Nat.le_mul_of_pos_left _ p0) hm
/-- all minors of size 2 -/
def all2 (n : Nat) (F : Nat → Nat → Int) (N : Nat) : Prop := ∀ x y, x < n → y < n → colN n F x y N
theorem all2_tr {n N : Nat} {F : Nat → Nat → Int} (h : all2 n F N) : all2 n (fun i j => F j i) N := fun x y hx hy l m hl hm => by
  have := h l m hl hm x y hx hy
  show (F x l * F y m - F y l * F x m).natAbs ≤ N
  rw [show F x l * F y m - F y l * F x m = F x l * F y m - F x m * F y l by grind]
  exact this
/-- one failing step, then the last pivot in the same column -/
theorem last_C1 {n b1 b k N : Nat} {A : Nat → Nat → Int} (n2 : 2 ≤ n) (hA : all2 n A N) (l1 : lstAt n A b1 k) (l : lstAt n (clrAt A b1 k) b k) (ho : okAt n (clrAt A b1 k) b k) : ∃ y, y < n ∧ y ≠ k ∧ ∀ x, x < n → x ≠ b → (clrAt (clrAt A b1 k) b k x y).natAbs ≤ N := by
  obtain ⟨y, hy, hyk⟩ : ∃ y, y < n ∧ y ≠ k := by
    by_cases c : k = 0
    · exact ⟨1, by omega, by omega⟩
    · exact ⟨0, by omega, by omega⟩
  exact ⟨y, hy, hyk, line_of l.1 l.2.2.1 ho hyk (colN_clr l1.1 l1.2.2.1 hyk (hA k y l1.2.1 hy))⟩
/-- two failing steps at least, the last pivot in the column of the one before -/
theorem last_C2 {n b2 k2 b1 b k N : Nat} {A : Nat → Nat → Int} (n2 : 2 ≤ n) (hA : all2 n A N) (l2 : lstAt n A b2 k2) (l1 : lstAt n (clrAt A b2 k2) b1 k) (l : lstAt n (clrAt (clrAt A b2 k2) b1 k) b k) (ho : okAt n (clrAt (clrAt A b2 k2) b1 k) b k) : ∃ y, y < n ∧ y ≠ k ∧ ∀ x, x < n → x ≠ b → (clrAt (clrAt (clrAt A b2 k2) b1 k) b k x y).natAbs ≤ N := by
  by_cases c : k2 = k
  · subst c
    obtain ⟨y, hy, hyk⟩ : ∃ y, y < n ∧ y ≠ k2 := by
      by_cases c : k2 = 0
      · exact ⟨1, by omega, by omega⟩
      · exact ⟨0, by omega, by omega⟩
    exact ⟨y, hy, hyk, line_of l.1 l.2.2.1 ho hyk (colN_clr l1.1 l1.2.2.1 hyk (colN_clr l2.1 l2.2.2.1 hyk (hA k2 y l2.2.1 hy)))⟩
  · exact ⟨k2, l2.2.1, c, line_of l.1 l.2.2.1 ho c (colN_clr l1.1 l1.2.2.1 c (colN_sy (colN_clr l2.1 l2.2.2.1 (fun y => c y.symm) (hA k2 k l2.2.1 l1.2.1))))⟩
theorem lstAt_tr {n b k : Nat} {F : Nat → Nat → Int} (h : lstAt n F b k) : lstAt n (fun i j => F j i) k b := ⟨h.2.1, h.1, h.2.2.1, fun x y hx hy hn => h.2.2.2 y x hy hx hn⟩
theorem okAt_tr {n b k : Nat} {F : Nat → Nat → Int} (h : okAt n F b k) : okAt n (fun i j => F j i) k b := ⟨h.2, h.1⟩
theorem clrAt_trf {b k : Nat} {F : Nat → Nat → Int} : (fun i j => clrAt F b k j i) = clrAt (fun i j => F j i) k b := by
  funext i j
  exact clrAt_tr.symm
theorem last_R1 {n k1 b k N : Nat} {A : Nat → Nat → Int} (n2 : 2 ≤ n) (hA : all2 n A N) (l1 : lstAt n A b k1) (l : lstAt n (clrAt A b k1) b k) (ho : okAt n (clrAt A b k1) b k) : ∃ x, x < n ∧ x ≠ b ∧ ∀ y, y < n → y ≠ k → (clrAt (clrAt A b k1) b k x y).natAbs ≤ N := by
  have l' := lstAt_tr l
  have ho' := okAt_tr ho
  rw [clrAt_trf] at l' ho'
  obtain ⟨x, hx, hxb, h⟩ := last_C1 n2 (all2_tr hA) (lstAt_tr l1) l' ho'
  refine ⟨x, hx, hxb, fun y hy hyk => ?_⟩
  have := h y hy hyk
  have e : clrAt (clrAt (fun i j => A j i) k1 b) k b y x = clrAt (clrAt A b k1) b k x y := by
    rw [← clrAt_trf (F := A) (b := b) (k := k1)]
    exact clrAt_tr
  rw [← e]
  exact this
theorem last_R2 {n b2 k2 k1 b k N : Nat} {A : Nat → Nat → Int} (n2 : 2 ≤ n) (hA : all2 n A N) (l2 : lstAt n A b2 k2) (l1 : lstAt n (clrAt A b2 k2) b k1) (l : lstAt n (clrAt (clrAt A b2 k2) b k1) b k) (ho : okAt n (clrAt (clrAt A b2 k2) b k1) b k) : ∃ x, x < n ∧ x ≠ b ∧ ∀ y, y < n → y ≠ k → (clrAt (clrAt (clrAt A b2 k2) b k1) b k x y).natAbs ≤ N := by
  have l1' := lstAt_tr l1
  have l' := lstAt_tr l
  have ho' := okAt_tr ho
  rw [clrAt_trf] at l1'
  rw [clrAt_trf, clrAt_trf] at l' ho'
  obtain ⟨x, hx, hxb, h⟩ := last_C2 n2 (all2_tr hA) (lstAt_tr l2) l1' l' ho'
  refine ⟨x, hx, hxb, fun y hy hyk => ?_⟩
  have := h y hy hyk
  have e : clrAt (clrAt (clrAt (fun i j => A j i) k2 b2) k1 b) k b y x = clrAt (clrAt (clrAt A b2 k2) b k1) b k x y := by
    rw [← clrAt_trf (F := A) (b := b2) (k := k2), ← clrAt_trf (F := clrAt A b2 k2) (b := b) (k := k1)]
    exact clrAt_tr
  rw [← e]
  exact this
/-- the last pivot inside: the corner is small, or it is 0 and its row is a small line -/
theorem last_I {n b1 k1 b k N : Nat} {A : Nat → Nat → Int} (hA : all2 n A N) (l1 : lstAt n A b1 k1) (l : lstAt n (clrAt A b1 k1) b k) (ho : okAt n (clrAt A b1 k1) b k) (hb : b ≠ b1) (hk : k ≠ k1) :
    (clrAt (clrAt A b1 k1) b k b1 k1).natAbs ≤ (A b1 k1).natAbs + (A b1 k1).natAbs * (A b1 k1).natAbs ∧ (clrAt (clrAt A b1 k1) b k b1 k1 = 0 → ∀ y, y < n → y ≠ k → (clrAt (clrAt A b1 k1) b k b1 y).natAbs ≤ N) := by
  have hp := l1.2.2.1
  have p0 := Int.natAbs_pos.mpr hp
  have g11 : clrAt A b1 k1 b1 k1 = A b1 k1 := by unfold clrAt; rw [if_pos rfl, if_pos rfl]
  have g1 : ∀ y, y ≠ k1 → clrAt A b1 k1 b1 y = (A b1 y).tmod (A b1 k1) := fun y hy => by unfold clrAt; rw [if_pos rfl, if_neg hy]
  have gb : clrAt A b1 k1 b k1 = (A b k1).tmod (A b1 k1) := by unfold clrAt; rw [if_neg hb, if_pos rfl]
  have lt : ∀ x : Int, (x.tmod (A b1 k1)).natAbs ≤ (A b1 k1).natAbs := fun x => by
    rw [Int.natAbs_tmod]
    exact Nat.le_of_lt (Nat.mod_lt _ p0)
  have zs : (clrAt A b1 k1 b1 k).tmod (clrAt A b1 k1 b k) = 0 := ho.1 b1 l1.1 (fun y => hb y.symm)
  have tu := tm_eq (x := clrAt A b1 k1 b1 k) (p := clrAt A b1 k1 b k)
  rw [zs] at tu
  have P0 := l.2.2.1
  have val : ∀ y, y ≠ k → clrAt (clrAt A b1 k1) b k b1 y = clrAt A b1 k1 b1 y - (clrAt A b1 k1 b1 k).tdiv (clrAt A b1 k1 b k) * clrAt A b1 k1 b y := fun y hy => by
    show clrAt (clrAt A b1 k1) b k b1 y = _
    rw [show clrAt (clrAt A b1 k1) b k b1 y = (if b1 = b then (if y = k then clrAt A b1 k1 b k else (clrAt A b1 k1 b y).tmod (clrAt A b1 k1 b k)) else if y = k then (clrAt A b1 k1 b1 k).tmod (clrAt A b1 k1 b k) else clrAt A b1 k1 b1 y - (clrAt A b1 k1 b1 k).tdiv (clrAt A b1 k1 b k) * clrAt A b1 k1 b y - (clrAt A b1 k1 b y).tdiv (clrAt A b1 k1 b k) * (clrAt A b1 k1 b1 k).tmod (clrAt A b1 k1 b k)) from rfl]
    rw [if_neg (fun z => hb z.symm), if_neg hy, zs, Int.mul_zero, Int.sub_zero]
  have hs : (clrAt A b1 k1 b1 k).natAbs ≤ (A b1 k1).natAbs := by rw [g1 k hk]; exact lt _
  have hu : ((clrAt A b1 k1 b1 k).tdiv (clrAt A b1 k1 b k)).natAbs ≤ (A b1 k1).natAbs := by
    rw [Int.natAbs_tdiv]
    exact Nat.le_trans (Nat.div_le_self _ _) hs
  have hr : (clrAt A b1 k1 b k1).natAbs ≤ (A b1 k1).natAbs := by rw [gb]; exact lt _
  have v1 := val k1 (fun y => hk y.symm)
  rw [g11] at v1
  refine ⟨?_, fun h0 y hy hyk => ?_⟩
  · rw [v1]
    have := Int.natAbs_sub_le (A b1 k1) ((clrAt A b1 k1 b1 k).tdiv (clrAt A b1 k1 b k) * clrAt A b1 k1 b k1)
    rw [Int.natAbs_mul] at this
    have := Nat.mul_le_mul hu hr
    omega
  · by_cases cy : y = k1
    · rw [cy, h0]; exact Nat.zero_le _
    · have v := val y hyk
      have hm := hA k1 y l1.2.1 hy b1 b l1.1 l.1
      rw [h0] at v1
      -- what stands at (b, y) before the last step
      have gy : clrAt A b1 k1 b y = A b y - (A b k1).tdiv (A b1 k1) * A b1 y - (A b1 y).tdiv (A b1 k1) * (A b k1).tmod (A b1 k1) := by
        unfold clrAt; rw [if_neg hb, if_neg cy]
      have t1 := tm_eq (x := A b k1) (p := A b1 k1)
      have t2 := tm_eq (x := A b1 y) (p := A b1 k1)
      rw [g1 y cy, gy] at v
      rw [gb] at v1 hr
      generalize (clrAt A b1 k1 b1 k).tdiv (clrAt A b1 k1 b k) = u at *
      generalize clrAt (clrAt A b1 k1) b k b1 y = X at *
      generalize (A b k1).tmod (A b1 k1) = r at *
      generalize (A b1 y).tmod (A b1 k1) = s at *
      generalize (A b k1).tdiv (A b1 k1) = d at *
      generalize (A b1 y).tdiv (A b1 k1) = e at *
      have r0 : r ≠ 0 := fun z => by
        rw [z, Int.mul_zero] at v1
        omega
      have key : r * X = - (A b1 k1 * A b y - A b1 y * A b k1) := by
        have hp1 : A b1 k1 = u * r := by omega
        rw [v]
        have e1 : A b k1 = r + d * A b1 k1 := by omega
        have e2 : A b1 y = s + e * A b1 k1 := by omega
        rw [e1, e2]
        have : r * (s - u * (A b y - d * (s + e * A b1 k1) - e * r)) = r * s - (u * r) * (A b y - d * (s + e * A b1 k1) - e * r) := by grind
        rw [this, ← hp1]
        grind
      have := congrArg Int.natAbs key
      rw [Int.natAbs_mul, Int.natAbs_neg] at this
      have r1 := Int.natAbs_pos.mpr r0
      exact Nat.le_trans (Nat.le_mul_of_pos_left _ r1) (by rw [this]; exact hm)
