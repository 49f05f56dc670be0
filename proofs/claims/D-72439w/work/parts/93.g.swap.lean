/-! PLAIN LAW, 93.g: rows and columns of a new table change places: component -/
theorem jTn.md {md : Nat → Bool} {t ar R K : Nat} {rr : Nat → Nat} {rf : Nat → Option Nat} {F : Nat → Nat → Int} {H0 H : HM} (h : jTn t ar R K rr rf F H0 (jMk md H)) : jTbA t ar R K rr rf F H := by
  obtain ⟨⟨h1, h2, h3, h4⟩, -⟩ := h
  exact ⟨(mkg h1).2, (mkg h2).2, fun i hi => ⟨(h3 i hi).1, (h3 i hi).2.choose, (mkg (h3 i hi).2.choose_spec.1).2, (h3 i hi).2.choose_spec.2⟩, h4⟩
section NT
variable {β : Type} {Q : β → Mem → Prop} {md : Nat → Bool} {N c s t ar R K : Nat} {M0 M : Mem} {F : Nat → Nat → Int} {rr : Nat → Nat} {rf : Nat → Option Nat} {H0 : HM}
theorem jN_R {p : Int32 → jm_P β} (h : jTbA t ar R K rr rf F M.2.2) (kk : jo (p (nI R)) M Q) : jo (jm_rd (jm_fI [11] 1 (some t)) p) M Q := jT_rows ⟨ar, rr, rf, h⟩ kk
theorem jN_K {p : Int32 → jm_P β} (h : jTbA t ar R K rr rf F M.2.2) (kk : jo (p (nI K)) M Q) : jo (jm_rd (jm_fI [11] 2 (some t)) p) M Q := jT_cols ⟨ar, rr, rf, h⟩ kk
theorem jN_cl {p : Nat → jm_P β} (h : jTbA t ar R K rr rf F M.2.2) (kk : jo (p t) M Q) : jo (jm_rd (jm_cl 11 (some t)) p) M Q := jT_cl ⟨ar, rr, rf, h⟩ kk
theorem jN_at {p : Option Nat → jm_P β} (h : jTbA t ar R K rr rf F M.2.2) (kk : jo (p (some ar)) M Q) : jo (jm_rd (jm_fR [11] 0 (some t)) p) M Q := jo_fR h.1 (by decide) rfl kk
theorem jN_row {p : Option Nat → jm_P β} (h : jTbA t ar R K rr rf F M.2.2) {i : Nat} {i' : Int32} (hi' : i' = nI i) (hi : i < R) (hR : R < 2 ^ 31) (kk : jo (p (rf i)) M Q) : jo (jm_rd (jm_ldR 13 (some ar) i') p) M Q := jo_ldR h.2.1 hi' hi hR kk
theorem jN_ld {p : Int64 → jm_P β} (h : jTbA t ar R K rr rf F M.2.2) {i j : Nat} {j' : Int32} (hj' : j' = nI j) (hi : i < R) (hj : j < K) (hK : K < 2 ^ 31) (kk : jo (p (jI (F i j))) M Q) : jo (jm_rd (jm_ldJ 2 (rf i) j') p) M Q := by
  obtain ⟨h1, h2, h3, h4⟩ := h
  obtain ⟨e1, g, g1, g2⟩ := h3 i hi
  rw [e1]
  refine jo_ldJ g1 hj' hj hK ?_
  rw [g2 j hj]
  exact kk
theorem jx_swapRows (hE : jExt md c s M0 M) (h : jTn t ar R K rr rf F H0 (jMk md M.2.2)) (hR : R < 2 ^ 31) {i j : Nat} (hi : i < R) (hj : j < R) : jo (jf_X11_swapRows N t (nI i) (nI j)) M (fun _ M' => ∃ rr' rf', jTn t ar R K rr' rf' (swr F i j) H0 (jMk md M'.2.2) ∧ jExt md c s M0 M') := by
  have hm := h.md
  obtain ⟨⟨h1, h2, h3, h4⟩, a1, a2, a3, a4⟩ := h
  unfold jf_X11_swapRows
  have fit : ∀ (b : Nat) (M' : Mem), b < R → jSub (jMk md M.2.2) (jMk md M'.2.2) ∨ (∀ a, a ≠ ar → jMk md M'.2.2 a = jMk md M.2.2 a) → jm_fit [] (some 2) (rf b) M' = true := by
    intro b M' hb hs
    obtain ⟨e1, g, g1, g2⟩ := h3 b hb
    have : jMk md M'.2.2 (rr b) = some (aJ K g) := by
      rcases hs with hs | hs
      · exact hs _ _ g1
      · rw [hs _ (fun e => by rw [e, h2] at g1; cases g1)]; exact g1
    rw [e1]
    unfold jm_fit
    simp only [(mkg this).2]
    rfl
  refine jN_at hm (jN_row hm rfl hi hR (jN_at hm (jN_at hm (jN_row hm rfl hj hR ?_))))
  refine jo_ck (by rw [(h3 j hj).1]; simp) (jX_stR h2 rfl hi hR (fit j M hj (.inl (fun _ _ h => h))) hE (fun M1 e1 E1 => ?_))
  have o1 : jMk md M1.2.2 ar = some (aR 13 R (va_up rf i (rf j))) := by rw [e1, va_up_self]
  have t1 : jMk md M1.2.2 t = some (.inr (11, [.ref ar, .int (nI R), .int (nI K)])) := by rw [e1, va_up_ne _ _ (fun y => by rw [y, h2] at h1; cases h1)]; exact h1
  refine jo_fR (mkg t1).2 (by decide) rfl (jo_ck (by rw [(h3 i hi).1]; simp) (jX_stR o1 rfl hj hR (fit i M1 hi (.inr (fun a ha => by rw [e1, va_up_ne _ _ ha]))) E1 (fun M2 e2 E2 => jo_ret ⟨fun a => rr (if a = i then j else if a = j then i else a), va_up (va_up rf i (rf j)) j (rf i), ⟨⟨?_, ?_, fun a ha => ⟨?_, ?_⟩, fun a b ha hb e => ?_⟩, a1, a2, fun a => a3 _, ?_⟩, E2⟩)))
  · rw [e2, va_up_ne _ _ (fun y => by rw [y, h2] at h1; cases h1)]; exact t1
  · rw [e2, va_up_self]
  · have e := fun b (hb : b < R) => (h3 b hb).1
    show va_up (va_up rf i (rf j)) j (rf i) a = some (rr (if a = i then j else if a = j then i else a))
    by_cases c1 : a = i
    · subst c1
      rw [if_pos rfl]
      by_cases c2 : a = j
      · subst c2; rw [va_up_self, e a ha]
      · rw [va_up_ne _ _ c2, va_up_self, e j hj]
    · rw [if_neg c1]
      by_cases c2 : a = j
      · subst c2; rw [if_pos rfl, va_up_self, e i hi]
      · rw [if_neg c2, va_up_ne _ _ c2, va_up_ne _ _ c1, e a ha]
  · have lt : (if a = i then j else if a = j then i else a) < R := by split; exact hj; split; exact hi; exact ha
    obtain ⟨_, g, g1, g2⟩ := h3 _ lt
    refine ⟨g, ?_, fun b hb => g2 b hb⟩
    have hne : rr (if a = i then j else if a = j then i else a) ≠ ar := fun y => by rw [y, h2] at g1; cases g1
    show jMk md M2.2.2 (rr (if a = i then j else if a = j then i else a)) = _
    rw [e2, va_up_ne _ _ hne, e1, va_up_ne _ _ hne]
    exact g1
  · have := h4 _ _ (by split; exact hj; split; exact hi; exact ha) (by split; exact hj; split; exact hi; exact hb) e
    split at this <;> split at this <;> (try split at this) <;> (try split at this) <;> omega
  · rw [e2, e1]; exact (a4.wr a2).wr a2
/-- columns change places -/
def swc (F : Nat → Nat → Int) (s t : Nat) : Nat → Nat → Int := fun i j => F i (if j = s then t else if j = t then s else j)
theorem jx_swapColumns (hE : jExt md c s M0 M) (h : jTn t ar R K rr rf F H0 (jMk md M.2.2)) (hR : R < 2 ^ 31) (hK : K < 2 ^ 31) (hN : R < N) {i j : Nat} (hi : i < K) (hj : j < K) : jo (jf_X11_swapColumns N t (nI i) (nI j)) M (fun _ M' => jTn t ar R K rr rf (swc F i j) H0 (jMk md M'.2.2) ∧ jExt md c s M0 M') := by
  unfold jf_X11_swapColumns jf_X11_swapColumns_k12_51
  refine jN_at h.md (jo_len h.md.2.1 rfl ?_)
  refine jo_bd (jo_mono (jo_up R (fun a z M' => z = nI a ∧ jTn t ar R K rr rf (fun x y => if x < a then swc F i j x y else F x y) H0 (jMk md M'.2.2) ∧ jExt md c s M0 M') (fun _ M' => jTn t ar R K rr rf (swc F i j) H0 (jMk md M'.2.2) ∧ jExt md c s M0 M') ?_ ?_ N 0 _ M ⟨rfl, h.cg (fun x y _ _ => by rw [if_neg (by omega)]), hE⟩ (Nat.zero_le _) (by omega)) ?_)
  · rintro a z M' ha ⟨rfl, h', E'⟩
    unfold jf_X11_swapColumns_L12
    refine jo_f (by rw [nI_leI (by omega) (by omega)]; omega) (jN_row h'.md rfl ha hR (jN_ld h'.md rfl ha hi hK (jN_ld h'.md rfl ha hj hK ?_)))
    rw [if_neg (Nat.lt_irrefl a), if_neg (Nat.lt_irrefl a)]
    refine jT_st h' rfl ha hi hK E' rfl (fun M1 h1 E1 => ?_)
    refine jT_st h1 rfl ha hj hK E1 rfl (fun M2 h2 E2 => jo_ret ⟨by rw [nI_1], h2.cg (fun x y _ _ => ?_), E2⟩)
    unfold uTb swc
    dsimp only
    by_cases xa : x = a
    · subst xa
      rw [if_pos (show x < x + 1 by omega), if_neg (Nat.lt_irrefl x)]
      by_cases yj : y = j
      · subst yj
        rw [if_pos ⟨rfl, rfl⟩]
        by_cases yi : y = i
        · subst yi; rw [if_pos rfl]
        · rw [if_neg yi, if_pos rfl]
      · rw [if_neg (fun e => yj e.2)]
        by_cases yi : y = i
        · subst yi; rw [if_pos ⟨rfl, rfl⟩, if_pos rfl]
        · rw [if_neg (fun e => yi e.2), if_neg yi, if_neg yj]
    · rw [if_neg (fun e => xa e.1), if_neg (fun e => xa e.1)]
      by_cases l : x < a
      · rw [if_pos l, if_pos (show x < a + 1 by omega)]
      · rw [if_neg l, if_neg (show ¬ x < a + 1 by omega)]
  · rintro z M' ⟨rfl, h', E'⟩
    unfold jf_X11_swapColumns_L12
    exact jo_t (by rw [nI_leI (by omega) (by omega)]; omega) (jo_ret ⟨h'.cg (fun x y hx _ => by rw [if_pos hx]), E'⟩)
  · rintro _ M' hq
    exact jo_ret hq
end NT
