/-! PLAIN LAW, 93.h: the least number of a table; a clear: component -/
def inn (R K' k x y : Nat) : Prop := k ≤ x ∧ x < R ∧ k ≤ y ∧ y < K'
def lxl (x y i j : Nat) : Prop := x < i ∨ (x = i ∧ y < j)
/-- where the least number other than 0 is, the first one -/
def isLst (F : Nat → Nat → Int) (R K' k i j : Nat) : Prop := inn R K' k i j ∧ F i j ≠ 0 ∧ ∀ x y, inn R K' k x y → F x y ≠ 0 → (F i j).natAbs ≤ (F x y).natAbs ∧ (lxl x y i j → (F i j).natAbs < (F x y).natAbs)
def lsI (F : Nat → Nat → Int) (R K' k a b : Nat) (v2 : Int32) (v3 : Int64) : Prop := (v2 = iI (-1000000) ∧ ∀ x y, inn R K' k x y → lxl x y a b → F x y = 0) ∨ ∃ i j, v2 = nI (100 * i + j) ∧ v3 = jI ((F i j).natAbs : Int) ∧ inn R K' k i j ∧ lxl i j a b ∧ F i j ≠ 0 ∧ ∀ x y, inn R K' k x y → lxl x y a b → F x y ≠ 0 → (F i j).natAbs ≤ (F x y).natAbs ∧ (lxl x y i j → (F i j).natAbs < (F x y).natAbs)
theorem jI_abs {z : Int} (h : z.natAbs < 9223372036854775808) : (if 0 < jI z then jI z else - jI z) = jI ((z.natAbs : Nat) : Int) := by
  by_cases c : 0 < z
  · rw [if_pos (show (0 : Int64) < jI z from (jI_ltI (a := 0) (b := z) (by omega) (by omega)).mpr c)]
    congr 1; omega
  · rw [if_neg (show ¬ (0 : Int64) < jI z from fun y => c ((jI_ltI (a := 0) (b := z) (by omega) (by omega)).mp y)), jI_neg]
    congr 1; omega
section LS
variable {β : Type} {Q : β → Mem → Prop} {md : Nat → Bool} {N c s t ar R K' : Nat} {M0 M : Mem} {F : Nat → Nat → Int} {rr : Nat → Nat} {rf : Nat → Option Nat} {H0 : HM}
theorem jx_least (h : jTbA t ar R (K' + 1) rr rf F M.2.2) (hR : R ≤ 50) (hK : K' ≤ 50) (hN : 100 < N) {k : Nat} (hkR : k ≤ R) (hkK : k ≤ K') (hr : ∀ i j, inn R K' k i j → (F i j).natAbs < 9223372036854775808) :
    jo (jf_X11_least N t (nI k)) M (fun r M' => M' = M ∧ ((r = iI (-1000000) ∧ ∀ x y, inn R K' k x y → F x y = 0) ∨ ∃ i j, r = nI (100 * i + j) ∧ isLst F R K' k i j)) := by
  unfold jf_X11_least jf_X11_least_k8_93
  refine jo_bd (jo_mono (jo_up R (fun a z M' => M' = M ∧ k ≤ a ∧ z.2.2 = nI a ∧ lsI F R K' k a 0 z.1 z.2.1) (fun r M' => M' = M ∧ ((r = iI (-1000000) ∧ ∀ x y, inn R K' k x y → F x y = 0) ∨ ∃ i j, r = nI (100 * i + j) ∧ isLst F R K' k i j)) ?_ ?_ N k _ M ⟨rfl, Nat.le_refl _, rfl, .inl ⟨rfl, fun x y hi hl => ?_⟩⟩ hkR (by omega)) ?_)
  · rintro a ⟨v2, v3, v5⟩ M' ha ⟨rfl, ka, e, hI⟩
    have e : v5 = nI a := e
    subst e
    have hI : lsI F R K' k a 0 v2 v3 := hI
    unfold jf_X11_least_L8 jf_X11_least_k20_87
    refine jN_R h (jo_f (by rw [nI_leI (by omega) (by omega)]; omega) ?_)
    dsimp only
    refine jo_bd (jo_mono (jo_up K' (fun b z M1 => M1 = M' ∧ k ≤ b ∧ z.2.2 = nI b ∧ lsI F R K' k a b z.1 z.2.1) (fun r M1 => M1 = M' ∧ lsI F R K' k (a + 1) 0 r.1 r.2) ?_ ?_ N k _ M' ⟨rfl, Nat.le_refl _, rfl, ?_⟩ hkK (by omega)) ?_)
    · rintro b ⟨v2, v3, v6⟩ M1 hb ⟨rfl, kb, e, hI⟩
      have e : v6 = nI b := e
      subst e
      have hI : lsI F R K' k a b v2 v3 := hI
      have hin : inn R K' k a b := ⟨ka, ha, kb, hb⟩
      have rg := hr a b hin
      unfold jf_X11_least_L20
      refine jN_K h (jo_f ?_ (jN_at h (jN_row h rfl ha (by omega) (jN_ld h rfl ha (by omega) (by omega) (jo_lt ?_)))))
      · show ¬ nI (K' + 1) - nI 1 ≤ nI b
        rw [nI_sub (by omega), nI_leI (by omega) (by omega)]; omega
      rw [jI_abs rg]
      -- lexicographic: one place on
      have lx : ∀ x y, lxl x y a (b + 1) → lxl x y a b ∨ (x = a ∧ y = b) := by unfold lxl; omega
      have keep : (∀ i j, inn R K' k i j → lxl i j a b → F i j ≠ 0 → v3 = jI ((F i j).natAbs : Int) → (F a b ≠ 0 → (F i j).natAbs ≤ (F a b).natAbs)) → (F a b ≠ 0 → v2 ≠ iI (-1000000)) → lsI F R K' k a (b + 1) v2 v3 := by
        intro h1 h2
        rcases hI with ⟨e1, e2⟩ | ⟨i, j, e1, e2, e3, e4, e5, e6⟩
        · refine .inl ⟨e1, fun x y hi hl => ?_⟩
          rcases lx x y hl with l | ⟨rfl, rfl⟩
          · exact e2 x y hi l
          · exact Classical.byContradiction fun q => h2 q e1
        · refine .inr ⟨i, j, e1, e2, e3, by unfold lxl at e4 ⊢; omega, e5, fun x y hi hl hx => ?_⟩
          rcases lx x y hl with l | ⟨rfl, rfl⟩
          · exact e6 x y hi l hx
          · exact ⟨h1 i j e3 e4 e5 e2 hx, fun l => by unfold lxl at e4 l; omega⟩
      have take : F a b ≠ 0 → (∀ i j, inn R K' k i j → lxl i j a b → F i j ≠ 0 → v3 = jI ((F i j).natAbs : Int) → v2 = nI (100 * i + j) → (F a b).natAbs < (F i j).natAbs) → lsI F R K' k a (b + 1) (nI (100 * a + b)) (jI ((F a b).natAbs : Int)) := by
        intro h0 h1
        refine .inr ⟨a, b, rfl, rfl, hin, .inr ⟨rfl, by omega⟩, h0, fun x y hi hl hx => ?_⟩
        rcases lx x y hl with l | ⟨rfl, rfl⟩
        · rcases hI with ⟨e1, e2⟩ | ⟨i, j, e1, e2, e3, e4, e5, e6⟩
          · exact absurd (e2 x y hi l) hx
          · have q1 := h1 i j e3 e4 e5 e2 e1
            have q2 := (e6 x y hi l hx).1
            exact ⟨by omega, fun _ => by omega⟩
        · exact ⟨Nat.le_refl _, fun l => by unfold lxl at l; omega⟩
      unfold jf_X11_least_j81 jf_X11_least_j69
      by_cases z0 : F a b = 0
      · refine jo_t (by rw [z0]; rfl) (jo_ret ⟨rfl, by omega, by rw [nI_1], keep (fun _ _ _ _ _ _ q => absurd z0 q) (fun q => absurd z0 q)⟩)
      refine jo_f (by rw [jI_0 (by omega)]; omega) ?_
      have ixe : (100 : Int32) * nI a + nI b = nI (100 * a + b) := by rw [show (100 : Int32) = nI 100 from rfl, nI_mul, nI_add]
      have nn : ∀ i j, inn R K' k i j → ¬ nI (100 * i + j) = iI (-1000000) := fun i j hi => by
        have := hi.2.1
        have := hi.2.2.2
        rw [nI_iI, iI_eqI (by omega) (by omega)]; omega
      by_cases c1 : v2 = iI (-1000000)
      · refine jo_t c1 ?_
        unfold jf_X11_least_j81
        refine jo_ret ⟨rfl, by omega, by rw [nI_1], ?_⟩
        dsimp only
        rw [ixe]
        refine take z0 (fun i j hi _ _ _ e => absurd (e ▸ c1) (nn i j hi))
      · refine jo_f c1 ?_
        rcases hI with ⟨e1, e2⟩ | ⟨i, j, e1, e2, e3, e4, e5, e6⟩
        · exact absurd e1 c1
        have rg2 := hr i j e3
        have uq : ∀ i' j', v3 = jI ((F i' j').natAbs : Int) → inn R K' k i' j' → (F i' j').natAbs = (F i j).natAbs := fun i' j' e hi' => by
          have rg3 := hr i' j' hi'
          rw [e2] at e
          have := (jI_eqI (by omega) (by omega)).mp e
          omega
        by_cases c2 : (F a b).natAbs < (F i j).natAbs
        · refine jo_t (by rw [e2, jI_ltI (by omega) (by omega)]; omega) ?_
          unfold jf_X11_least_j81
          refine jo_ret ⟨rfl, by omega, by rw [nI_1], ?_⟩
          dsimp only
          rw [ixe]
          exact take z0 (fun i' j' hi' _ _ e _ => by rw [uq i' j' e hi']; exact c2)
        · refine jo_f (by rw [e2, jI_ltI (by omega) (by omega)]; omega) ?_
          exact jo_ret ⟨rfl, by omega, by rw [nI_1], keep (fun i' j' hi' _ _ e _ => by rw [uq i' j' e hi']; omega) (fun _ => c1)⟩
    · rintro ⟨v2, v3, v6⟩ M1 ⟨rfl, kb, e, hI⟩
      have e : v6 = nI K' := e
      subst e
      unfold jf_X11_least_L20
      refine jN_K h (jo_t ?_ (jo_ret ⟨rfl, ?_⟩))
      · show nI (K' + 1) - nI 1 ≤ nI K'
        rw [nI_sub (by omega), nI_leI (by omega) (by omega)]; omega
      · have lx : ∀ x y, inn R K' k x y → (lxl x y (a + 1) 0 ↔ lxl x y a K') := by unfold lxl inn; omega
        rcases hI with ⟨e1, e2⟩ | ⟨i, j, e1, e2, e3, e4, e5, e6⟩
        · exact .inl ⟨e1, fun x y hi hl => e2 x y hi ((lx x y hi).mp hl)⟩
        · exact .inr ⟨i, j, e1, e2, e3, (lx i j e3).mpr e4, e5, fun x y hi hl => e6 x y hi ((lx x y hi).mp hl)⟩
    · have lx : ∀ x y, inn R K' k x y → (lxl x y a k ↔ lxl x y a 0) := by unfold lxl inn; omega
      rcases hI with ⟨e1, e2⟩ | ⟨i, j, e1, e2, e3, e4, e5, e6⟩
      · exact .inl ⟨e1, fun x y hi hl => e2 x y hi ((lx x y hi).mp hl)⟩
      · exact .inr ⟨i, j, e1, e2, e3, (lx i j e3).mpr e4, e5, fun x y hi hl => e6 x y hi ((lx x y hi).mp hl)⟩
    · rintro ⟨v2', v3'⟩ M1 ⟨rfl, hI'⟩
      exact jo_ret ⟨rfl, by omega, by rw [nI_1], hI'⟩
  · rintro ⟨v2, v3, v5⟩ M' ⟨rfl, ka, e, hI⟩
    have e : v5 = nI R := e
    subst e
    unfold jf_X11_least_L8
    refine jN_R h (jo_t (by rw [nI_leI (by omega) (by omega)]; omega) (jo_ret ⟨rfl, ?_⟩))
    have al : ∀ x y, inn R K' k x y → lxl x y R 0 := fun x y hi => .inl hi.2.1
    rcases hI with ⟨e1, e2⟩ | ⟨i, j, e1, e2, e3, e4, e5, e6⟩
    · exact .inl ⟨e1, fun x y hi => e2 x y hi (al x y hi)⟩
    · exact .inr ⟨i, j, e1, e3, e5, fun x y hi hx => e6 x y hi (al x y hi) hx⟩
  · unfold lxl inn at *
    omega
  · rintro r M' hq
    exact jo_ret hq
end LS
