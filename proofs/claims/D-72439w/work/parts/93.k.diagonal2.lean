/-! PLAIN LAW, 93.k: what a table's diagonal tells -/
def clo (R K' : Nat) (P : Nat → (Nat → Nat → Int) → Prop) : Prop := ∀ k F i j, P k F → isLst F R K' k i j → (clrd (swc (swr F k i) k j) R K' k → P (k + 1) (stp F K' k i j)) ∧ (¬ clrd (swc (swr F k i) k j) R K' k → P k (stp F K' k i j))
/-- what the run from F0 on comes to -/
def rch (R K' : Nat) (F0 : Nat → Nat → Int) (k : Nat) (F : Nat → Nat → Int) : Prop := ∀ P : Nat → (Nat → Nat → Int) → Prop, P 0 F0 → clo R K' P → P k F
theorem rch_clo {R K' : Nat} {F0 : Nat → Nat → Int} : clo R K' (rch R K' F0) := fun k F i j h hl => ⟨fun c P h0 hc => (hc k F i j (h P h0 hc) hl).1 c, fun c P h0 hc => (hc k F i j (h P h0 hc) hl).2 c⟩
/-- no number of the run passes a long -/
def smallD (R K' : Nat) (F0 : Nat → Nat → Int) : Prop := ∀ k F, rch R K' F0 k F → ∀ i j, inn R K' k i j → (F i j).natAbs < 9223372036854775808
section DR
variable {md : Nat → Bool} {N c s t ar R K' : Nat} {M0 M : Mem} {rr : Nat → Nat} {rf : Nat → Option Nat} {H0 : HM} {F : Nat → Nat → Int}
theorem jx_diag (hR : R ≤ 50) (hK : K' ≤ 50) (hN : 1180591620717411303424 < N) (hs : smallD R K' F) (h : jTn t ar R (K' + 1) rr rf F H0 (jMk md M.2.2)) (hE : jExt md c s M0 M) :
    jo (jf_X11_diagonal N t) M (fun r M' => ∃ k G rr rf, r = nI k ∧ k ≤ R ∧ k ≤ K' ∧ rch R K' F k G ∧ (∀ x y, inn R K' k x y → G x y = 0) ∧ jTn t ar R (K' + 1) rr rf G H0 (jMk md M'.2.2) ∧ jExt md c s M0 M') :=
  jx_diagonal (I := rch R K' F) hR hK hN hs rch_clo (fun P h0 _ => h0) h hE
/-- above and left of (k, k) there is a diagonal -/
def dgS (R K' k : Nat) (F : Nat → Nat → Int) : Prop := ∀ x y, x < R → y < K' → (x < k ∨ y < k) → (x ≠ y → F x y = 0) ∧ (x = y → F x y ≠ 0)
theorem dgS_clo : clo R K' (dgS R K') := by
  intro k F i j h ⟨⟨i1, i2, i3, i4⟩, i5, i6⟩
  -- behind the changes of place
  have hG : dgS R K' k (swc (swr F k i) k j) := by
    intro x y hx hy hk
    unfold swc swr
    have ex : x < k → (if x = k then i else if x = i then k else x) = x := fun l => by rw [if_neg (by omega), if_neg (by omega)]
    have ey : y < k → (if y = k then j else if y = j then k else y) = y := fun l => by rw [if_neg (by omega), if_neg (by omega)]
    have ex2 : ¬ x < k → k ≤ (if x = k then i else if x = i then k else x) ∧ (if x = k then i else if x = i then k else x) < R := fun l => by split; omega; split <;> omega
    have ey2 : ¬ y < k → k ≤ (if y = k then j else if y = j then k else y) ∧ (if y = k then j else if y = j then k else y) < K' := fun l => by split; omega; split <;> omega
    by_cases cx : x < k
    · rw [ex cx]
      by_cases cy : y < k
      · rw [ey cy]; exact h x y hx hy hk
      · have := ey2 cy
        exact ⟨fun _ => (h x _ hx this.2 (.inl cx)).1 (by omega), fun e => by omega⟩
    · have a := ex2 cx
      have cy : y < k := by omega
      rw [ey cy]
      exact ⟨fun _ => (h _ y a.2 hy (.inr cy)).1 (by omega), fun e => by omega⟩
  have g0 : swc (swr F k i) k j k k = F i j := by unfold swc swr; rw [if_pos rfl, if_pos rfl]
  generalize hGG : swc (swr F k i) k j = G at *
  have hr : dgS R K' k (rowP G k) := by
    intro x y hx hy hk
    unfold rowP
    by_cases c : k < x
    · rw [if_pos c]
      have cy : y < k := by omega
      have z1 := (hG x y hx hy hk).1 (by omega)
      have z2 := (hG k y (by omega) hy (.inr cy)).1 (by omega)
      exact ⟨fun _ => by rw [z1, z2]; omega, fun e => by omega⟩
    · rw [if_neg c]; exact hG x y hx hy hk
  have hc : dgS R K' k (stp F K' k i j) := by
    intro x y hx hy hk
    unfold stp
    rw [hGG]
    unfold colP
    by_cases c : k < y ∧ y < K'
    · rw [if_pos c]
      have cx : x < k := by omega
      have z1 := (hr x y hx hy hk).1 (by omega)
      have z2 := (hr x k hx (by omega) (.inl cx)).1 (by omega)
      exact ⟨fun _ => by rw [z1, z2]; omega, fun e => by omega⟩
    · rw [if_neg c]; exact hr x y hx hy hk
  refine ⟨fun cl x y hx hy hk => ?_, fun _ => hc⟩
  by_cases ck : x < k ∨ y < k
  · exact hc x y hx hy ck
  · unfold stp
    rw [hGG]
    have : x = k ∨ y = k := by omega
    by_cases cx : x = k
    · subst cx
      by_cases cy : y = x
      · subst cy
        refine ⟨fun e => absurd rfl e, fun _ => ?_⟩
        unfold colP
        rw [if_neg (by omega), rowP_row, g0]
        exact i5
      · exact ⟨fun _ => cl.2 y (by omega) hy, fun e => absurd e.symm cy⟩
    · have cy : y = k := by omega
      subst cy
      refine ⟨fun _ => ?_, fun e => absurd e cx⟩
      unfold colP
      rw [if_neg (by omega)]
      exact cl.1 x (by omega) hx
def eqD (R K : Nat) (F G : Nat → Nat → Int) : Prop := ∀ q d, dv q R K F d ↔ dv q R K G d
theorem eqD.tr {R K : Nat} {F G H : Nat → Nat → Int} (a : eqD R K F G) (b : eqD R K G H) : eqD R K F H := fun q d => (a q d).trans (b q d)
theorem sw_lt {n s t x : Nat} (hs : s < n) (ht : t < n) (hx : x < n) : (if x = s then t else if x = t then s else x) < n := by split; exact ht; split; exact hs; exact hx
theorem sw_sw {s t x : Nat} : (if (if x = s then t else if x = t then s else x) = s then t else if (if x = s then t else if x = t then s else x) = t then s else (if x = s then t else if x = t then s else x)) = x := by
  (repeat' split) <;> omega
theorem eqD_sw {K k i j : Nat} (hk : k < R) (hi : i < R) (hk2 : k < K) (hj : j < K) : eqD R K F (swc (swr F k i) k j) := by
  intro q d
  constructor
  · intro h
    exact dv_perm (f := fun x => if x = k then i else if x = i then k else x) (g := fun y => if y = k then j else if y = j then k else y) (fun x hx => sw_lt hk hi hx) (fun y hy => sw_lt hk2 hj hy) h
  · intro h
    have := dv_perm (f := fun x => if x = k then i else if x = i then k else x) (g := fun y => if y = k then j else if y = j then k else y) (fun x hx => sw_lt hk hi hx) (fun y hy => sw_lt hk2 hj hy) h
    refine dv_cg (fun x y _ _ => ?_) this
    unfold swc swr
    rw [sw_sw, sw_sw]
theorem eqD_row {K k : Nat} {G : Nat → Nat → Int} (hk : k < R) : eqD R K G (rowP G k) := by
  intro q d
  constructor
  · intro h
    refine dv_cg (fun x y _ _ => ?_) (dv_rows (b := k) (q := fun x => if k < x then (G x k).tdiv (G k k) else 0) hk h)
    unfold rowP
    by_cases c : k < x
    · rw [if_pos c, if_pos c]
    · rw [if_neg c, if_neg c]; omega
  · intro h
    refine dv_cg (fun x y _ _ => ?_) (dv_rows (b := k) (q := fun x => if k < x then - (G x k).tdiv (G k k) else 0) hk h)
    rw [rowP_row]
    unfold rowP
    by_cases c : k < x
    · rw [if_pos c, if_pos c]; grind
    · rw [if_neg c, if_neg c]; omega
theorem eqD_col {K k : Nat} {G : Nat → Nat → Int} (hk : k < K) : eqD R K G (colP G k K') := by
  intro q d
  have ek : ∀ x, colP G k K' x k = G x k := fun x => by unfold colP; rw [if_neg (by omega)]
  constructor
  · intro h
    refine dv_cg (fun x y _ _ => ?_) (dv_cols (b := k) (q := fun y => if k < y ∧ y < K' then (G k y).tdiv (G k k) else 0) hk h)
    unfold colP
    by_cases c : k < y ∧ y < K'
    · rw [if_pos c, if_pos c]
    · rw [if_neg c, if_neg c]; omega
  · intro h
    refine dv_cg (fun x y _ _ => ?_) (dv_cols (b := k) (q := fun y => if k < y ∧ y < K' then - (G k y).tdiv (G k k) else 0) hk h)
    rw [ek]
    unfold colP
    by_cases c : k < y ∧ y < K'
    · rw [if_pos c, if_pos c]; grind
    · rw [if_neg c, if_neg c]; omega
theorem eqD_clo {K : Nat} {F0 : Nat → Nat → Int} (hK : K' ≤ K) : clo R K' (fun _ F => eqD R K F0 F) := by
  intro k F i j h ⟨⟨i1, i2, i3, i4⟩, i5, i6⟩
  have e : eqD R K F0 (stp F K' k i j) := ((h.tr (eqD_sw (show k < R by omega) i2 (show k < K by omega) (show j < K by omega))).tr (eqD_row (by omega))).tr (eqD_col (by omega))
  exact ⟨fun _ => e, fun _ => e⟩
/-- the end of a run: a diagonal that is divided alike -/
theorem rch_end {F0 G : Nat → Nat → Int} {r : Nat} (h : rch R K' F0 r G) (hr : r ≤ R) (hk : r ≤ K') (hz : ∀ x y, inn R K' r x y → G x y = 0) : (∀ i, i < r → G i i ≠ 0) ∧ (∀ q x, dv q R K' F0 x ↔ dvP q r (fun i => G i i) x) := by
  have d := h _ (fun x y _ _ hxy => by omega) (dgS_clo (R := R) (K' := K'))
  have e := h _ (fun q x => Iff.rfl) (eqD_clo (R := R) (K' := K') (K := K') (F0 := F0) (Nat.le_refl _))
  refine ⟨fun i hi => (d i i (by omega) (by omega) (.inl hi)).2 rfl, fun q x => ?_⟩
  rw [e q x, ← dv_dg (k := q) hr hk]
  have same : ∀ a b, a < R → b < K' → G a b = dgM r (fun i => G i i) a b := by
    intro a b ha hb
    unfold dgM
    by_cases c : a = b ∧ a < r
    · rw [if_pos c, c.1]
    · rw [if_neg c]
      by_cases l : a < r ∨ b < r
      · exact (d a b ha hb l).1 (fun e => c ⟨e, by omega⟩)
      · exact hz a b ⟨by omega, ha, by omega, hb⟩
  exact ⟨dv_cg same, dv_cg (fun a b ha hb => (same a b ha hb).symm)⟩
theorem rch_rank {F0 G : Nat → Nat → Int} {r : Nat} (h : rch R K' F0 r G) (hr : r ≤ R) (hk : r ≤ K') (hz : ∀ x y, inn R K' r x y → G x y = 0) : isRk R K' F0 r := by
  obtain ⟨h1, h2⟩ := rch_end h hr hk hz
  refine ⟨hr, hk, fun y => ?_, fun q hq => ?_⟩
  · have := (h2 r 0).mp y (fun a => a) (fun a b _ _ e => e) (fun a ha => ha)
    exact pr_ne (fun a ha => h1 a ha) (Int.zero_dvd.mp this)
  · rw [h2]
    intro s hi hs
    have := pigeon q r s hi hs
    omega
end DR
