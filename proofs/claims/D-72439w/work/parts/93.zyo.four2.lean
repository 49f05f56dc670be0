/-! SIZES, 93.zyo: a stage of rank 4 with no more than four rows and columns other than 0 (no program in sight) -/
theorem Z4_row {R K' k : Nat} {G : Nat → Nat → Int} {o : Nat → Nat} {p : Nat} (h : Z4 R K' k G o) (hkK : k < K') (hp : G k k ≠ 0) : Z4 R K' k (rowP G k) (upN o k p) := by
  intro ρ hr hi
  obtain ⟨a, a5, a1, a0⟩ := h ρ hr hi
  have hne : ρ a ≠ k := fun y => hp (by rw [y] at a0; exact a0 k (Nat.le_refl _) hkK)
  refine ⟨a, a5, by unfold upN; rw [if_neg hne]; exact a1, fun y y1 y2 => ?_⟩
  have := (hr a a5).1
  unfold rowP
  rw [if_pos (by omega), a0 k (Nat.le_refl _) hkK, a0 y y1 y2, Int.zero_tdiv, Int.zero_mul, Int.sub_zero]
theorem Z4_cg {R K' k : Nat} {F G : Nat → Nat → Int} {o : Nat → Nat} (e : ∀ x y, inn R K' k x y → F x y = G x y) (h : Z4 R K' k F o) : Z4 R K' k G o := fun ρ hr hi => by
  obtain ⟨a, a5, a1, a0⟩ := h ρ hr hi
  exact ⟨a, a5, a1, fun y y1 y2 => by rw [← e (ρ a) y ⟨(hr a a5).1, (hr a a5).2, y1, y2⟩]; exact a0 y y1 y2⟩
theorem Z4_colP {R K' k : Nat} {G : Nat → Nat → Int} {o : Nat → Nat} (h : Z4 R K' k G o) (hkK : k < K') : Z4 R K' k (colP G k K') o := by
  intro ρ hr hi
  obtain ⟨a, a5, a1, a0⟩ := h ρ hr hi
  refine ⟨a, a5, a1, fun y y1 y2 => ?_⟩
  unfold colP
  split
  · rw [a0 k (Nat.le_refl _) hkK, a0 y y1 y2, Int.mul_zero, Int.sub_zero]
  · exact a0 y y1 y2
theorem Z4_colT {R K' k : Nat} {G : Nat → Nat → Int} {o : Nat → Nat} {p : Nat} (h : Z4 K' R k (fun x y => G y x) o) (hkR : k < R) (hp : G k k ≠ 0) : Z4 K' R k (fun x y => colP G k K' y x) (upN o k p) :=
  Z4_cg (F := rowP (fun x y => G y x) k) (fun x y h => col_is y x ⟨h.2.2.1, h.2.2.2, h.1, h.2.1⟩) (Z4_row h hkR hp)
theorem Z4_rowT {R K' k : Nat} {G : Nat → Nat → Int} {o : Nat → Nat} (h : Z4 K' R k (fun x y => G y x) o) (hkR : k < R) : Z4 K' R k (fun x y => rowP G k y x) o := by
  intro ρ hr hi
  obtain ⟨a, a5, a1, a0⟩ := h ρ hr hi
  refine ⟨a, a5, a1, fun y y1 y2 => ?_⟩
  show rowP G k y (ρ a) = 0
  have z : ∀ y, k ≤ y → y < R → G y (ρ a) = 0 := a0
  unfold rowP
  split
  · rw [z k (Nat.le_refl _) hkR, z y y1 y2, Int.mul_zero, Int.sub_zero]
  · exact z y y1 y2
theorem Z4_sw {R K' k i j : Nat} {F : Nat → Nat → Int} {o : Nat → Nat} (hi : k ≤ i ∧ i < R) (hj : k ≤ j ∧ j < K') (h : Z4 R K' k F o) : Z4 R K' k (swc (swr F k i) k j) (fun x => o (sw2 k i x)) := by
  intro ρ hr hinj
  have s2 : ∀ x, sw2 k i (sw2 k i x) = x := fun x => by
    unfold sw2
    split <;> split <;> (try split) <;> omega
  obtain ⟨a, a5, a1, a0⟩ := h (fun a => sw2 k i (ρ a)) (fun a ha => sw2_in hi.1 hi.2 (hr a ha).1 (hr a ha).2) (fun a b ha hb e => hinj a b ha hb (by
    have := congrArg (sw2 k i) e
    rw [s2, s2] at this
    exact this))
  refine ⟨a, a5, a1, fun y y1 y2 => ?_⟩
  rw [sw_eq]
  obtain ⟨t1, t2⟩ := sw2_in hj.1 hj.2 y1 y2
  exact a0 _ t1 t2
theorem Z4_swT {R K' k i j : Nat} {F : Nat → Nat → Int} {o : Nat → Nat} (hi : k ≤ i ∧ i < R) (hj : k ≤ j ∧ j < K') (h : Z4 K' R k (fun x y => F y x) o) : Z4 K' R k (fun x y => swc (swr F k i) k j y x) (fun x => o (sw2 k j x)) :=
  Z4_sw (F := fun x y => F y x) hj hi h
theorem Z4_5 {R K' k : Nat} {F : Nat → Nat → Int} {o : Nat → Nat} (h : Z4 R K' k F o) : bdM 5 R K' k F 0 := fun σ τ hs ht => by
  by_cases hi : ij 5 σ
  · obtain ⟨a, a5, _, a0⟩ := h σ hs hi
    rw [mn_row0 a5 (fun b hb => a0 (τ b) (ht b hb).1 (ht b hb).2)]
    exact Nat.zero_le _
  · rw [mn_nij hi]; exact Nat.zero_le _
theorem topP_colI {n R K' k Kc N E : Nat} {F : Nat → Nat → Int} {o o' : Nat → Nat} (hn : n ≤ 3) (hkR : k < R) (hkK : k < K') (hp : F k k ≠ 0) (hv : bdM (n + 1) R K' k F N) (ho : ∀ l, k ≤ l → l < K' → 0 < o' l) (hr : ∀ l, k < l → l < K' → 2 * ((F k l).tmod (F k k)).natAbs ≤ o' l) (hpk : (F k k).natAbs ≤ o' k)
    (hE : ∀ σ τ, inr k K' n σ → inr k R n τ → ij n σ → ij n τ → (∀ a, a < n → σ a ≠ k) → (∀ a, a < n → ∃ y, k ≤ y ∧ y < R ∧ F y (σ a) ≠ 0) → (∀ b, b < n → ∃ x, k ≤ x ∧ x < K' ∧ F (τ b) x ≠ 0) → 2 * N * (Wt k K' o' * Wt k R o) ≤ E * (o' k * (npr n (fun a => o' (σ a)) * npr n (fun b => o (τ b)))))
    (h : topP n R K' k F o o' Kc) : topP n R K' k (colP F k K') o (upN o' k (F k k).natAbs) (Kc + E) := by
  have t := topP_rowI (R := K') (K' := R) (F := fun i j => F j i) (o := o') (o' := o) hn hkK hkR hp (bdM_tr hv) ho hr hpk hE (topP_tr h)
  have t2 := topP_tr t
  intro σ τ hs ht
  have := t2 σ τ hs ht
  rw [mn_cg (B := fun a b => colP F k K' (σ a) (τ b)) (fun a b ha hb => by
    unfold rowP colP
    dsimp only
    have := ht b hb
    by_cases c : k < τ b
    · rw [if_pos c, if_pos ⟨c, this.2⟩]
    · rw [if_neg c, if_neg (fun z => c z.1)])] at this
  exact this
def okW (R K' k w : Nat) (F : Nat → Nat → Int) (o : Nat → Nat) : Prop := ∀ l, k ≤ l → l < R → 0 < o l ∧ o l ≤ w ∧ rowOK R K' k F o l
theorem pot_step4 {R K' k i j Kc N w : Nat} {F : Nat → Nat → Int} {o o' : Nat → Nat} (w0 : 0 < w) (hl : isLst F R K' k i j) (hc : ¬ clrd (swc (swr F k i) k j) R K' k) (z : Z4 R K' k F o) (z' : Z4 K' R k (fun x y => F y x) o') (h4 : bdM 4 R K' k F N) (ho : okW R K' k w F o) (ho' : okW K' R k w (fun x y => F y x) o') (h : topP 3 R K' k F o o' Kc) :
    (∃ q q', Z4 R K' k (stp F K' k i j) q ∧ Z4 K' R k (fun x y => stp F K' k i j y x) q' ∧ bdM 4 R K' k (stp F K' k i j) N ∧ okW R K' k w (stp F K' k i j) q ∧ okW K' R k w (fun x y => stp F K' k i j y x) q' ∧ topP 3 R K' k (stp F K' k i j) q q' (Kc + 2 * N * w + 2 * N * w)) ∧ bdM 3 R K' k (rowP (swc (swr F k i) k j) k) (Kc + 2 * N * w) := by
  obtain ⟨r1, r2⟩ := gr_of hl (fun l a b => (ho l a b).2.2)
  obtain ⟨c1, c2⟩ := gc_of hl (fun l a b => (ho' l a b).2.2)
  obtain ⟨⟨i1, i2, i3, i4⟩, i5, i6⟩ := hl
  have hkR : k < R := by omega
  have hkK : k < K' := by omega
  have hG := topP_sw (n := 3) ⟨i1, i2⟩ ⟨i3, i4⟩ (ho i i1 i2).1 (ho' j i3 i4).1 h
  have hV := bdM_sw (n := 4) ⟨i1, i2⟩ ⟨i3, i4⟩ h4
  have zG := Z4_sw ⟨i1, i2⟩ ⟨i3, i4⟩ z
  have zG' := Z4_swT ⟨i1, i2⟩ ⟨i3, i4⟩ z'
  have g0 : (swc (swr F k i) k j) k k = F i j := sw_kk
  have hmin : ∀ x y, inn R K' k x y → swc (swr F k i) k j x y ≠ 0 → ((swc (swr F k i) k j) k k).natAbs ≤ (swc (swr F k i) k j x y).natAbs := fun x y hxy n0 => by
    obtain ⟨t1, t2⟩ := sw2_in i1 i2 hxy.1 hxy.2.1
    obtain ⟨t3, t4⟩ := sw2_in i3 i4 hxy.2.2.1 hxy.2.2.2
    rw [g0]
    exact (i6 _ _ ⟨t1, t2, t3, t4⟩ n0).1
  have ei : sw2 k i k = i := by unfold sw2; rw [if_pos rfl]
  have ej : sw2 k j k = j := by unfold sw2; rw [if_pos rfl]
  have oR : ∀ l, k ≤ l → l < R → 0 < o (sw2 k i l) ∧ o (sw2 k i l) ≤ w := fun l a b => by
    obtain ⟨t1, t2⟩ := sw2_in i1 i2 a b
    exact ⟨(ho _ t1 t2).1, (ho _ t1 t2).2.1⟩
  have oC : ∀ l, k ≤ l → l < K' → 0 < o' (sw2 k j l) ∧ o' (sw2 k j l) ≤ w := fun l a b => by
    obtain ⟨t1, t2⟩ := sw2_in i3 i4 a b
    exact ⟨(ho' _ t1 t2).1, (ho' _ t1 t2).2.1⟩
  have hpw : (F i j).natAbs ≤ w := Nat.le_trans r2 (ho i i1 i2).2.1
  unfold stp
  generalize hGG : swc (swr F k i) k j = G at *
  have hp : G k k ≠ 0 := by rw [g0]; exact i5
  have hf := fail_ex hkR hkK hp hc
  have st := stpF_is (R := R) (K' := K') (k := k) (G := G)
  have p0 : 0 < (G k k).natAbs := Int.natAbs_pos.mpr hp
  have e0 : rowP G k k k = G k k := rowP_row
  have kR : ∃ y, k ≤ y ∧ y < K' ∧ G k y ≠ 0 := ⟨k, Nat.le_refl _, hkK, hp⟩
  have t1 := topP_rowI (E := 2 * N * w) (o := fun x => o (sw2 k i x)) (by decide) hkR hkK hp hV (fun l a b => (oR l a b).1) (fun l a b => rowG_res hp hkK (r1 l a b)) (by rw [g0]; show _ ≤ o (sw2 k i k); rw [ei]; exact r2) (fun σ τ hs ht his hit hk hn hm => by
    have a1 := Z4_wt zG hkR kR hs his hk hn
    have a2 := Z4_wt' (F := fun x y => G y x) zG' w0 (fun l a b => (oC l a b).2) ht hit hm
    rw [a1]
    refine Nat.le_trans (Nat.mul_le_mul_left _ (Nat.mul_le_mul_left _ a2)) (Nat.le_of_eq ?_)
    ac_rfl) hG
  have zr := Z4_row (p := (G k k).natAbs) zG hkK hp
  have zr' := Z4_rowT zG' hkR
  have v4 := sq4_row zG hkR hkK hp hV
  have upR : ∀ l, k ≤ l → l < R → 0 < upN (fun x => o (sw2 k i x)) k (G k k).natAbs l ∧ upN (fun x => o (sw2 k i x)) k (G k k).natAbs l ≤ w := fun l a b => by
    unfold upN
    split
    · exact ⟨p0, by rw [g0]; exact hpw⟩
    · exact oR l a b
  have upC : ∀ l, k ≤ l → l < K' → 0 < upN (fun x => o' (sw2 k j x)) k (G k k).natAbs l ∧ upN (fun x => o' (sw2 k j x)) k (G k k).natAbs l ≤ w := fun l a b => by
    unfold upN
    split
    · exact ⟨p0, by rw [g0]; exact hpw⟩
    · exact oC l a b
  have t2 := topP_colI (E := 2 * N * w) (F := rowP G k) (o' := fun y => o' (sw2 k j y)) (by decide) hkR hkK (by rw [e0]; exact hp) v4 (fun l a b => (oC l a b).1) (fun l a b => by
    rw [rowP_row, rowP_row]
    exact rowG_res (G := fun x y => G y x) hp hkR (c1 l a b)) (by rw [e0, g0]; show _ ≤ o' (sw2 k j k); rw [ej]; exact c2) (fun σ τ hs ht his hit hk hn hm => by
    have a1 := Z4_wt (F := fun x y => rowP G k y x) zr' hkK ⟨k, Nat.le_refl _, hkR, by show rowP G k k k ≠ 0; rw [e0]; exact hp⟩ hs his hk hn
    have a2 := Z4_wt' zr w0 (fun l a b => (upR l a b).2) ht hit hm
    rw [a1]
    refine Nat.le_trans (Nat.mul_le_mul_left _ (Nat.mul_le_mul_left _ a2)) (Nat.le_of_eq ?_)
    ac_rfl) t1
  rw [e0] at t2
  refine ⟨⟨_, _, Z4_colP zr hkK, Z4_colT zr' hkR (by rw [e0]; exact hp), sq4_col zr' hkR hkK (by rw [e0]; exact hp) v4, fun l a b => ⟨(upR l a b).1, (upR l a b).2, ok_next st hkR hkK hp hmin hf r1 l a b⟩, fun l a b => ⟨(upC l a b).1, (upC l a b).2, ok_next (stpF_tr st) hkK hkR hp (fun x y hxy n0 => hmin y x ⟨hxy.2.2.1, hxy.2.2.2, hxy.1, hxy.2.1⟩ n0) ?_ c1 l a b⟩, t2⟩, topP_bd (fun l a b => (upR l a b).1) (fun l a b => (oC l a b).1) t1⟩
  obtain ⟨a, b, hi, h1, h2⟩ := hf
  exact ⟨b, a, ⟨hi.2.2.1, hi.2.2.2, hi.1, hi.2.1⟩, h1, h2⟩
