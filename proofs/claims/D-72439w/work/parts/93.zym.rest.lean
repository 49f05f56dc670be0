/-! SIZES, 93.zym: the potential with a rest (no program in sight) -/
/-- the potential where the next size's minors are no more than N -/
theorem topP_rowI {n R K' k Kc N E : Nat} {F : Nat → Nat → Int} {o o' : Nat → Nat} (hn : n ≤ 3) (hkR : k < R) (hkK : k < K') (hp : F k k ≠ 0) (hv : bdM (n + 1) R K' k F N) (ho : ∀ l, k ≤ l → l < R → 0 < o l) (hr : ∀ l, k < l → l < R → 2 * ((F l k).tmod (F k k)).natAbs ≤ o l) (hpk : (F k k).natAbs ≤ o k) (hE : ∀ σ τ, inr k R n σ → inr k K' n τ → ij n σ → ij n τ → (∀ a, a < n → σ a ≠ k) → (∀ a, a < n → ∃ y, k ≤ y ∧ y < K' ∧ F (σ a) y ≠ 0) → (∀ b, b < n → ∃ x, k ≤ x ∧ x < R ∧ F x (τ b) ≠ 0) → 2 * N * (Wt k R o * Wt k K' o') ≤ E * (o k * (npr n (fun a => o (σ a)) * npr n (fun b => o' (τ b))))) (h : topP n R K' k F o o' Kc) : topP n R K' k (rowP F k) (upN o k (F k k).natAbs) o' (Kc + E) := by
  intro σ τ hs ht
  have hW := Wt_up (x := (F k k).natAbs) (o := o) hkR
  have ok0 := ho k (Nat.le_refl _) hkR
  by_cases hi : ij n σ
  · by_cases hk : ∃ t, t < n ∧ σ t = k
    · obtain ⟨t, t1, t2⟩ := hk
      rw [rowP_thru t1 t2 hi (fun a ha => (hs a ha).1)]
      have b := h σ τ hs ht
      have u := npr_up (n := n) (t := t) (x := (F k k).natAbs) (f := fun a => o (σ a)) t1
      have e : npr n (fun a => upN o k (F k k).natAbs (σ a)) = npr n (fun a => if a = t then (F k k).natAbs else o (σ a)) := npr_cg fun a ha => by
        unfold upN
        by_cases c : a = t
        · rw [if_pos (by rw [c, t2]), if_pos c]
        · rw [if_neg (fun y => c (hi a t ha t1 (by rw [t2, y]))), if_neg c]
      rw [e]
      rw [t2] at u
      refine Nat.le_of_mul_le_mul_right ?_ ok0
      generalize npr n (fun a => if a = t then (F k k).natAbs else o (σ a)) = x at *
      generalize npr n (fun a => o (σ a)) = y at *
      generalize npr n (fun b => o' (τ b)) = z at *
      generalize Wt k R (upN o k (F k k).natAbs) = w at *
      generalize Wt k R o = v at *
      generalize Wt k K' o' = v' at *
      generalize (mn n fun a b => F (σ a) (τ b)).natAbs = m at *
      generalize (F k k).natAbs = p at *
      calc m * (w * v') * o k = m * ((w * o k) * v') := by grind
        _ = m * (v * v') * p := by rw [hW]; grind
        _ ≤ Kc * (y * z) * p := Nat.mul_le_mul_right _ b
        _ = Kc * ((y * p) * z) := by grind
        _ = Kc * (x * z) * o k := by rw [← u]; grind
        _ ≤ (Kc + E) * (x * z) * o k := Nat.mul_le_mul_right _ (Nat.mul_le_mul_right _ (Nat.le_add_right _ _))
    · have gt : ∀ a, a < n → k < σ a := fun a ha => by
        have := (hs a ha).1
        have : σ a ≠ k := fun y => hk ⟨a, ha, y⟩
        omega
      have e : npr n (fun a => upN o k (F k k).natAbs (σ a)) = npr n (fun a => o (σ a)) := npr_cg fun a ha => by
        unfold upN
        rw [if_neg (by have := gt a ha; omega)]
      rw [e]
      by_cases hj : ij n τ
      case neg =>
        rw [mn_nijc (A := rowP F k) hj]
        show 0 * _ ≤ _
        rw [Nat.zero_mul]
        exact Nat.zero_le _
      have z := hv (cn k σ) (cn k τ) (inr_cn hkR hs) (inr_cn hkK ht)
      by_cases hm : mn n (fun a b => rowP F k (σ a) (τ b)) = 0
      case pos =>
        rw [hm]
        show 0 * _ ≤ _
        rw [Nat.zero_mul]
        exact Nat.zero_le _
      have hE' := hE σ τ hs ht hi hj (fun a ha => by have := gt a ha; omega) (fun a ha => Classical.byContradiction fun c => hm (mn_row0 ha fun b hb => by
        have z : ∀ y, k ≤ y → y < K' → F (σ a) y = 0 := fun y y1 y2 => Classical.byContradiction fun y3 => c ⟨y, y1, y2, y3⟩
        unfold rowP
        rw [if_pos (gt a ha), z k (Nat.le_refl k) hkK, z (τ b) (ht b hb).1 (ht b hb).2, Int.zero_tdiv, Int.zero_mul, Int.sub_zero])) (fun b hb => Classical.byContradiction fun c => hm (by
        rw [← mn_tr]
        refine mn_row0 hb fun a ha => ?_
        have z : ∀ x, k ≤ x → x < R → F x (τ b) = 0 := fun y y1 y2 => Classical.byContradiction fun y3 => c ⟨y, y1, y2, y3⟩
        show rowP F k (σ a) (τ b) = 0
        unfold rowP
        rw [if_pos (gt a ha), z k (Nat.le_refl k) hkR, z (σ a) (hs a ha).1 (hs a ha).2, Int.mul_zero, Int.sub_zero]))
      have m1 := mn_piv (σ := σ) (τ := τ) (n := n) hp
      have m2 := mn_rowP (σ := σ) (τ := τ) (n := n) hp gt
      generalize mn (n + 1) (fun a b => F (cn k σ a) (cn k τ b)) = X at *
      have n1 : jsum n (fun t => F (σ t) k * xch F n k σ τ t) = F k k * mn n (fun a b => F (σ a) (τ b)) - X := by omega
      have n2 : jsum n (fun t => (F (σ t) k).tmod (F k k) * xch F n k σ τ t) = F k k * mn n (fun a b => rowP F k (σ a) (τ b)) - X := by omega
      have b := h σ τ hs ht
      generalize hWW : Wt k R o * Wt k K' o' = W at *
      have cs := co_sum (n := n) (T := fun t => (2 * W : Nat) * (F (σ t) k * xch F n k σ τ t)) (T' := fun t => (2 * W : Nat) * ((F (σ t) k).tmod (F k k) * xch F n k σ τ t)) (c := Kc * (o k * (npr n (fun a => o (σ a)) * npr n (fun b => o' (τ b))))) (fun t _ => by
        have s := mul_sg (y := xch F n k σ τ t) (tm_sg (x := F (σ t) k) (p := F k k))
        have w0 : (0 : Int) ≤ ((2 * W : Nat) : Int) := Int.natCast_nonneg _
        generalize ((2 * W : Nat) : Int) = w at *
        generalize F (σ t) k * xch F n k σ τ t = x at *
        generalize (F (σ t) k).tmod (F k k) * xch F n k σ τ t = y at *
        rcases Int.lt_or_eq_of_le w0 with w1 | w1
        · refine ⟨fun q => ?_, fun q => ?_⟩
          · have : 0 ≤ x := by
              rcases Int.lt_trichotomy x 0 with c | c | c
              · have := Int.mul_neg_of_pos_of_neg w1 c; omega
              · omega
              · omega
            obtain ⟨s1, s2⟩ := s.1 this
            exact ⟨Int.mul_nonneg w0 s1, Int.mul_le_mul_of_nonneg_left s2 w0⟩
          · have : x ≤ 0 := by
              rcases Int.lt_trichotomy x 0 with c | c | c
              · omega
              · omega
              · have := Int.mul_pos w1 c; omega
            obtain ⟨s1, s2⟩ := s.2 this
            exact ⟨Int.mul_nonpos_of_nonneg_of_nonpos w0 s1, Int.mul_le_mul_of_nonneg_left s2 w0⟩
        · rw [← w1, Int.zero_mul, Int.zero_mul]
          exact ⟨fun _ => ⟨Int.le_refl _, Int.le_refl _⟩, fun _ => ⟨Int.le_refl _, Int.le_refl _⟩⟩) (fun t ht' => by
        have r := hr (σ t) (gt t ht') (hs t ht').2
        have x1 := h (fun a => if a = t then k else σ a) τ (inr_ch hkR hs) ht
        rw [hWW, ← xch_eq] at x1
        have u := npr_up (n := n) (t := t) (x := o k) (f := fun a => o (σ a)) ht'
        have ee : npr n (fun a => o (if a = t then k else σ a)) = npr n (fun a => if a = t then o k else o (σ a)) := npr_cg fun a _ => by split <;> rfl
        rw [ee] at x1
        rw [Int.natAbs_mul, Int.natAbs_mul, Int.natAbs_natCast]
        generalize npr n (fun a => if a = t then o k else o (σ a)) = x at *
        generalize npr n (fun a => o (σ a)) = y at *
        generalize npr n (fun b => o' (τ b)) = z' at *
        generalize (xch F n k σ τ t).natAbs = m at *
        generalize ((F (σ t) k).tmod (F k k)).natAbs = q at *
        calc 2 * W * (q * m) = (2 * q) * (m * W) := by grind
          _ ≤ o (σ t) * (Kc * (x * z')) := Nat.mul_le_mul r x1
          _ = Kc * ((x * o (σ t)) * z') := by grind
          _ = Kc * (o k * (y * z')) := by rw [u]; grind)
      rw [ds_mul, ds_mul, n1, n2, Int.natAbs_mul, Int.natAbs_mul, Int.natAbs_natCast] at cs
      have a1 : (F k k * mn n (fun a b => F (σ a) (τ b)) - X).natAbs ≤ (F k k).natAbs * (mn n (fun a b => F (σ a) (τ b))).natAbs + N := by
        have := Int.natAbs_sub_le (F k k * mn n (fun a b => F (σ a) (τ b))) X
        rw [Int.natAbs_mul] at this
        omega
      have a2 : (F k k).natAbs * (mn n (fun a b => rowP F k (σ a) (τ b))).natAbs ≤ (F k k * mn n (fun a b => rowP F k (σ a) (τ b)) - X).natAbs + N := by
        rw [← Int.natAbs_mul]
        omega
      generalize (F k k * mn n (fun a b => F (σ a) (τ b)) - X).natAbs = s1 at *
      generalize (F k k * mn n (fun a b => rowP F k (σ a) (τ b)) - X).natAbs = s2 at *
      refine Nat.le_of_mul_le_mul_right ?_ ok0
      have p0 : 0 < (F k k).natAbs := Int.natAbs_pos.mpr hp
      have w1 : Wt k R (upN o k (F k k).natAbs) * Wt k K' o' * o k = W * (F k k).natAbs := by
        rw [← hWW]
        calc Wt k R (upN o k (F k k).natAbs) * Wt k K' o' * o k = (Wt k R (upN o k (F k k).natAbs) * o k) * Wt k K' o' := by grind
          _ = _ := by rw [hW]; grind
      generalize npr n (fun a => o (σ a)) = y at *
      generalize npr n (fun b => o' (τ b)) = z' at *
      generalize Wt k R (upN o k (F k k).natAbs) * Wt k K' o' = w at *
      generalize (mn n fun a b => rowP F k (σ a) (τ b)).natAbs = m' at *
      generalize (mn n fun a b => F (σ a) (τ b)).natAbs = m at *
      generalize (F k k).natAbs = p at *
      have goal : m' * (W * p) ≤ (Kc + E) * (y * z') * o k := by
        have c3 : m * W * p ≤ Kc * (y * z') * o k := Nat.mul_le_mul b hpk
        have c4 : 2 * W * (p * m') ≤ 2 * W * s2 + 2 * W * N := by rw [← Nat.mul_add]; exact Nat.mul_le_mul_left _ a2
        have c5 : 2 * W * s1 ≤ 2 * W * (p * m) + 2 * W * N := by rw [← Nat.mul_add]; exact Nat.mul_le_mul_left _ a1
        have c6 : 2 * W * N ≤ E * (y * z') * o k := by
          calc 2 * W * N = 2 * N * W := by grind
            _ ≤ _ := hE'
            _ = _ := by grind
        have e1 : 2 * W * (p * m') = 2 * (m' * (W * p)) := by grind
        have e2 : 2 * W * (p * m) = 2 * (m * W * p) := by grind
        have e3 : (Kc + E) * (y * z') * o k = Kc * (y * z') * o k + E * (y * z') * o k := by grind
        rcases cs with c1 | c1
        · omega
        · have c2 : 2 * W * s2 ≤ 2 * (Kc * (y * z') * o k) := by
            calc 2 * W * s2 ≤ (n - 1) * (Kc * (o k * (y * z'))) := c1
              _ ≤ 2 * (Kc * (o k * (y * z'))) := Nat.mul_le_mul_right _ (by omega)
              _ = _ := by grind
          omega
      calc m' * w * o k = m' * (w * o k) := by grind
        _ = m' * (W * p) := by rw [w1]
        _ ≤ _ := goal
  · rw [mn_nij (A := rowP F k) hi]
    show 0 * _ ≤ _
    rw [Nat.zero_mul]
    exact Nat.zero_le _
