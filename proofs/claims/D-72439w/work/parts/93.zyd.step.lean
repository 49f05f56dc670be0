/-! SIZES, 93.zyd: the potential under a whole failing step (no program in sight) -/
theorem npr_sw {n t : Nat} {f : Nat → Nat} (ht : t < n) (h : 0 < f t) : npr n (fun a => f (sw2 0 t a)) = npr n f := by
  by_cases c : t = 0
  · subst c
    refine npr_cg fun a _ => ?_
    unfold sw2
    split
    · rename_i e; rw [e]
    · rfl
  · have h1 := npr_up (n := n) (t := 0) (x := f t) (f := f) (by omega)
    have h2 := npr_up (n := n) (t := t) (x := f 0) (f := fun a => if a = 0 then f t else f a) ht
    rw [if_neg c] at h2
    have e : npr n (fun a => f (sw2 0 t a)) = npr n (fun a => if a = t then f 0 else if a = 0 then f t else f a) := npr_cg fun a _ => by
      unfold sw2
      by_cases a0 : a = 0
      · rw [if_pos a0, if_neg (by omega), if_pos a0]
      · rw [if_neg a0]
        by_cases at' : a = t
        · rw [if_pos at', if_pos at']
        · rw [if_neg at', if_neg at', if_neg a0]
    rw [e]
    refine Nat.eq_of_mul_eq_mul_right h ?_
    rw [h2, h1]
theorem Wt_sw {k R i : Nat} {o : Nat → Nat} (h1 : k ≤ i) (h2 : i < R) (h : 0 < o i) : Wt k R (fun x => o (sw2 k i x)) = Wt k R o := by
  unfold Wt
  rw [← npr_sw (n := R - k) (t := i - k) (f := fun a => o (k + a)) (by omega) (by rw [show k + (i - k) = i by omega]; exact h)]
  refine npr_cg fun a _ => ?_
  show o (sw2 k i (k + a)) = o (k + sw2 0 (i - k) a)
  congr 1
  unfold sw2
  by_cases a0 : a = 0
  · rw [if_pos (by omega), if_pos a0]; omega
  · rw [if_neg (by omega), if_neg a0]
    by_cases c : a = i - k
    · rw [if_pos (by omega), if_pos c]; rfl
    · rw [if_neg (by omega), if_neg c]
theorem topP_sw {n R K' k i j Kc : Nat} {F : Nat → Nat → Int} {o o' : Nat → Nat} (hi : k ≤ i ∧ i < R) (hj : k ≤ j ∧ j < K') (ho : 0 < o i) (ho' : 0 < o' j) (h : topP n R K' k F o o' Kc) : topP n R K' k (swc (swr F k i) k j) (fun x => o (sw2 k i x)) (fun y => o' (sw2 k j y)) Kc := by
  intro σ τ hs ht
  rw [Wt_sw hi.1 hi.2 ho, Wt_sw hj.1 hj.2 ho']
  exact h (fun a => sw2 k i (σ a)) (fun b => sw2 k j (τ b)) (fun a ha => sw2_in hi.1 hi.2 (hs a ha).1 (hs a ha).2) (fun b hb => sw2_in hj.1 hj.2 (ht b hb).1 (ht b hb).2)
theorem van_sw {n R K' k i j : Nat} {F : Nat → Nat → Int} (hi : k ≤ i ∧ i < R) (hj : k ≤ j ∧ j < K') (h : van n R K' k F) : van n R K' k (swc (swr F k i) k j) := fun σ τ hs ht =>
  h (fun a => sw2 k i (σ a)) (fun b => sw2 k j (τ b)) (fun a ha => sw2_in hi.1 hi.2 (hs a ha).1 (hs a ha).2) (fun b hb => sw2_in hj.1 hj.2 (ht b hb).1 (ht b hb).2)
theorem gc_of {R K' k i j : Nat} {F : Nat → Nat → Int} {o' : Nat → Nat} (hl : isLst F R K' k i j) (h : ∀ c, k ≤ c → c < K' → rowOK K' R k (fun x y => F y x) o' c) : (∀ c, k < c → c < K' → rowG R k (fun x y => swc (swr F k i) k j y x) (fun x => o' (sw2 k j x)) c) ∧ (F i j).natAbs ≤ o' j := by
  obtain ⟨⟨i1, i2, i3, i4⟩, i5, i6⟩ := hl
  have g0 : (swc (swr F k i) k j) k k = F i j := by
    rw [sw_eq]
    dsimp only
    unfold sw2
    rw [if_pos rfl, if_pos rfl]
  have e0 : sw2 k i k = i := by unfold sw2; rw [if_pos rfl]
  constructor
  · intro c hkc hcK
    obtain ⟨s1, s2⟩ := sw2_in i3 i4 (Nat.le_of_lt hkc) hcK
    show ((∀ x, k ≤ x → x < R → (swc (swr F k i) k j x c).natAbs ≤ o' (sw2 k j c)) ∧ (swc (swr F k i) k j k c ≠ 0 → (swc (swr F k i) k j k k).natAbs < (swc (swr F k i) k j k c).natAbs)) ∨ 2 * (swc (swr F k i) k j k k).natAbs ≤ o' (sw2 k j c)
    rw [g0]
    have e : ∀ x, swc (swr F k i) k j x c = F (sw2 k i x) (sw2 k j c) := fun x => rfl
    rcases h _ s1 s2 with a | ⟨a, b, hi, h0, h1⟩
    · left
      refine ⟨fun x hx hxR => ?_, fun n0 => ?_⟩
      · obtain ⟨t1, t2⟩ := sw2_in i1 i2 hx hxR
        rw [e]
        exact (a _ t1 t2).1
      · rw [e, e0] at n0 ⊢
        rcases (a i i1 i2).2 n0 with q | ⟨x, y, hi, h0, h1⟩
        · have hjc : c = j := by
            unfold sw2 at q
            by_cases c1 : c = k
            · omega
            · rw [if_neg c1] at q
              by_cases c2 : c = j
              · exact c2
              · rw [if_neg c2] at q; omega
          rw [q] at n0 ⊢
          exact (i6 i k ⟨i1, i2, Nat.le_refl _, by omega⟩ n0).2 (.inr ⟨rfl, by omega⟩)
        · have h1 : (F y x).natAbs < (F i (sw2 k j c)).natAbs := h1
          have := (i6 y x ⟨hi.2.2.1, hi.2.2.2, hi.1, hi.2.1⟩ h0).1
          omega
    · right
      have h0 : F b a ≠ 0 := h0
      have h1 : 2 * (F b a).natAbs ≤ o' (sw2 k j c) := h1
      have := (i6 b a ⟨hi.2.2.1, hi.2.2.2, hi.1, hi.2.1⟩ h0).1
      show 2 * (F i j).natAbs ≤ o' (sw2 k j c)
      omega
  · rcases h j i3 i4 with a | ⟨a, b, hi, h0, h1⟩
    · exact (a i i1 i2).1
    · have h0 : F b a ≠ 0 := h0
      have h1 : 2 * (F b a).natAbs ≤ o' j := h1
      have := (i6 b a ⟨hi.2.2.1, hi.2.2.2, hi.1, hi.2.1⟩ h0).1
      omega
theorem topP_col {n R K' k Kc : Nat} {F : Nat → Nat → Int} {o o' : Nat → Nat} (hn : n ≤ 3) (hkR : k < R) (hkK : k < K') (hp : F k k ≠ 0) (hv : van (n + 1) R K' k F) (ho : ∀ l, k ≤ l → l < K' → 0 < o' l) (hr : ∀ l, k < l → l < K' → 2 * ((F k l).tmod (F k k)).natAbs ≤ o' l) (hpk : (F k k).natAbs ≤ o' k) (h : topP n R K' k F o o' Kc) : topP n R K' k (colP F k K') o (upN o' k (F k k).natAbs) Kc := by
  have t := topP_row (R := K') (K' := R) (F := fun i j => F j i) (o := o') (o' := o) hn hkK hkR hp (van_tr hv) ho hr hpk (topP_tr h)
  have t2 := topP_tr t
  intro σ τ hs ht
  have := t2 σ τ hs ht
  rw [mn_cg (B := fun a b => colP F k K' (σ a) (τ b)) (fun a b ha hb => by
    unfold rowP colP
    dsimp only
    have := ht b hb
    by_cases c : k < τ b
    · rw [if_pos c, if_pos ⟨c, this.2⟩]
    · rw [if_neg c, if_neg (fun z => c z.1)])] at this
  exact this
theorem van_col {n R K' k : Nat} {F : Nat → Nat → Int} (hkK : k < K') (h : van n R K' k F) : van n R K' k (colP F k K') := by
  have t2 := van_tr (van_rowP hkK (van_tr h))
  intro σ τ hs ht
  have := t2 σ τ hs ht
  rw [mn_cg (B := fun a b => colP F k K' (σ a) (τ b)) (fun a b ha hb => by
    unfold rowP colP
    dsimp only
    have := ht b hb
    by_cases c : k < τ b
    · rw [if_pos c, if_pos ⟨c, this.2⟩]
    · rw [if_neg c, if_neg (fun z => c z.1)])] at this
  exact this
/-- what a failing step leaves in the cross -/
theorem fail_ex {R K' k : Nat} {G : Nat → Nat → Int} (hkR : k < R) (hkK : k < K') (hp : G k k ≠ 0) (h : ¬ clrd G R K' k) : ∃ a b, inn R K' k a b ∧ colP (rowP G k) k K' a b ≠ 0 ∧ (colP (rowP G k) k K' a b).natAbs < (G k k).natAbs := by
  obtain ⟨f0, f1, f2, -⟩ := stpF_is (R := R) (K' := K') (k := k) (G := G)
  by_cases c : ∀ i, k < i → i < R → rowP G k i k = 0
  · have c2 : ¬ ∀ j, k < j → j < K' → colP (rowP G k) k K' k j = 0 := fun y => h ⟨c, y⟩
    have : ∃ j, k < j ∧ j < K' ∧ colP (rowP G k) k K' k j ≠ 0 := Classical.byContradiction fun y => c2 fun j a b => Classical.byContradiction fun z => y ⟨j, a, b, z⟩
    obtain ⟨j, a, b, z⟩ := this
    refine ⟨k, j, ⟨Nat.le_refl _, hkR, by omega, b⟩, z, ?_⟩
    rw [f2 j a b]
    exact tmod_lt' hp
  · have : ∃ i, k < i ∧ i < R ∧ rowP G k i k ≠ 0 := Classical.byContradiction fun y => c fun i a b => Classical.byContradiction fun z => y ⟨i, a, b, z⟩
    obtain ⟨i, a, b, z⟩ := this
    rw [rowP_k a] at z
    refine ⟨i, k, ⟨by omega, b, Nat.le_refl _, hkK⟩, by rw [f1 i a b]; exact z, ?_⟩
    rw [f1 i a b]
    exact tmod_lt' hp
/-- all that a failing step keeps -/
theorem pot_step {n R K' k i j Kc : Nat} {F : Nat → Nat → Int} {o o' : Nat → Nat} (hn : n ≤ 3) (hl : isLst F R K' k i j) (hc : ¬ clrd (swc (swr F k i) k j) R K' k) (hv : van (n + 1) R K' k F) (ho : ∀ l, k ≤ l → l < R → 0 < o l ∧ rowOK R K' k F o l) (ho' : ∀ l, k ≤ l → l < K' → 0 < o' l ∧ rowOK K' R k (fun x y => F y x) o' l) (h : topP n R K' k F o o' Kc) : ∃ q q', van (n + 1) R K' k (stp F K' k i j) ∧ (∀ l, k ≤ l → l < R → 0 < q l ∧ rowOK R K' k (stp F K' k i j) q l) ∧ (∀ l, k ≤ l → l < K' → 0 < q' l ∧ rowOK K' R k (fun x y => stp F K' k i j y x) q' l) ∧ topP n R K' k (stp F K' k i j) q q' Kc := by
  obtain ⟨r1, r2⟩ := gr_of hl (fun l a b => (ho l a b).2)
  obtain ⟨c1, c2⟩ := gc_of hl (fun l a b => (ho' l a b).2)
  obtain ⟨⟨i1, i2, i3, i4⟩, i5, i6⟩ := hl
  have hkR : k < R := by omega
  have hkK : k < K' := by omega
  have hG := topP_sw (n := n) ⟨i1, i2⟩ ⟨i3, i4⟩ (ho i i1 i2).1 (ho' j i3 i4).1 h
  have hV := van_sw (n := n + 1) ⟨i1, i2⟩ ⟨i3, i4⟩ hv
  have g0 : (swc (swr F k i) k j) k k = F i j := by
    rw [sw_eq]
    dsimp only
    unfold sw2
    rw [if_pos rfl, if_pos rfl]
  have hmin : ∀ x y, inn R K' k x y → swc (swr F k i) k j x y ≠ 0 → ((swc (swr F k i) k j) k k).natAbs ≤ (swc (swr F k i) k j x y).natAbs := fun x y hxy n0 => by
    obtain ⟨t1, t2⟩ := sw2_in i1 i2 hxy.1 hxy.2.1
    obtain ⟨t3, t4⟩ := sw2_in i3 i4 hxy.2.2.1 hxy.2.2.2
    rw [g0]
    exact (i6 _ _ ⟨t1, t2, t3, t4⟩ n0).1
  have ei : sw2 k i k = i := by unfold sw2; rw [if_pos rfl]
  have ej : sw2 k j k = j := by unfold sw2; rw [if_pos rfl]
  unfold stp
  generalize hGG : swc (swr F k i) k j = G at *
  have hp : G k k ≠ 0 := by rw [g0]; exact i5
  have hf := fail_ex hkR hkK hp hc
  have st := stpF_is (R := R) (K' := K') (k := k) (G := G)
  have p0 : 0 < (G k k).natAbs := Int.natAbs_pos.mpr hp
  have oR : ∀ l, k ≤ l → l < R → 0 < o (sw2 k i l) := fun l a b => by
    obtain ⟨t1, t2⟩ := sw2_in i1 i2 a b
    exact (ho _ t1 t2).1
  have oC : ∀ l, k ≤ l → l < K' → 0 < o' (sw2 k j l) := fun l a b => by
    obtain ⟨t1, t2⟩ := sw2_in i3 i4 a b
    exact (ho' _ t1 t2).1
  have t1 := topP_row (o := fun x => o (sw2 k i x)) hn hkR hkK hp hV oR (fun l a b => rowG_res hp hkK (r1 l a b)) (by rw [g0]; show _ ≤ o (sw2 k i k); rw [ei]; exact r2) hG
  have e0 : rowP G k k k = G k k := rowP_row
  have t2 := topP_col (F := rowP G k) (o' := fun y => o' (sw2 k j y)) hn hkR hkK (by rw [e0]; exact hp) (van_rowP hkR hV) oC (fun l a b => by
    rw [rowP_row, rowP_row]
    exact rowG_res (G := fun x y => G y x) hp hkR (c1 l a b)) (by rw [e0, g0]; show _ ≤ o' (sw2 k j k); rw [ej]; exact c2) t1
  rw [e0] at t2
  refine ⟨_, _, van_col hkK (van_rowP hkR hV), fun l a b => ⟨?_, ok_next st hkR hkK hp hmin hf r1 l a b⟩, fun l a b => ⟨?_, ok_next (stpF_tr st) hkK hkR hp (fun x y hxy n0 => hmin y x ⟨hxy.2.2.1, hxy.2.2.2, hxy.1, hxy.2.1⟩ n0) ?_ c1 l a b⟩, t2⟩
  · unfold upN
    split
    · exact p0
    · exact oR l a b
  · unfold upN
    split
    · exact p0
    · exact oC l a b
  · obtain ⟨a, b, hi, h1, h2⟩ := hf
    exact ⟨b, a, ⟨hi.2.2.1, hi.2.2.2, hi.1, hi.2.1⟩, h1, h2⟩
