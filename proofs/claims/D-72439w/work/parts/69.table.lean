/-! PLAIN LAW, 69: tables of the component -/
/-- the object at t is a table of R rows and K columns that holds F -/
def jTbA (t ar R K : Nat) (rr : Nat → Nat) (rf : Nat → Option Nat) (F : Nat → Nat → Int) (H : HM) : Prop := H t = some (.inr (11, [.ref ar, .int (nI R), .int (nI K)])) ∧ H ar = some (aR 13 R rf) ∧ (∀ i, i < R → rf i = some (rr i) ∧ ∃ g, H (rr i) = some (aJ K g) ∧ ∀ j, j < K → g j = jI (F i j)) ∧ (∀ i j, i < R → j < R → rr i = rr j → i = j)
def jTb (t R K : Nat) (F : Nat → Nat → Int) (H : HM) : Prop := ∃ ar rr rf, jTbA t ar R K rr rf F H
theorem jTb.sub {t R K : Nat} {F : Nat → Nat → Int} {H H' : HM} (hs : jSub H H') (h : jTb t R K F H) : jTb t R K F H' := by
  obtain ⟨ar, rr, rf, h1, h2, h3, h4⟩ := h
  exact ⟨ar, rr, rf, hs _ _ h1, hs _ _ h2, fun i hi => ⟨(h3 i hi).1, (h3 i hi).2.choose, hs _ _ (h3 i hi).2.choose_spec.1, (h3 i hi).2.choose_spec.2⟩, h4⟩
theorem jTb.cg {t R K : Nat} {F G : Nat → Nat → Int} {H : HM} (h : jTb t R K F H) (e : ∀ i j, i < R → j < K → F i j = G i j) : jTb t R K G H := by
  obtain ⟨ar, rr, rf, h1, h2, h3, h4⟩ := h
  refine ⟨ar, rr, rf, h1, h2, fun i hi => ⟨(h3 i hi).1, ?_⟩, h4⟩
  obtain ⟨g, g1, g2⟩ := (h3 i hi).2
  exact ⟨g, g1, fun j hj => by rw [g2 j hj, e i j hi hj]⟩
section TB
variable {β : Type} {Q : β → Mem → Prop} {md : Nat → Bool} {N c s t R K : Nat} {M0 M : Mem} {F : Nat → Nat → Int}
theorem jT_rows {p : Int32 → jm_P β} (h : jTb t R K F M.2.2) (kk : jo (p (nI R)) M Q) : jo (jm_rd (jm_fI [11] 1 (some t)) p) M Q := by
  obtain ⟨ar, rr, rf, h1, -⟩ := h
  exact jo_fI h1 (by decide) rfl kk
theorem jT_cols {p : Int32 → jm_P β} (h : jTb t R K F M.2.2) (kk : jo (p (nI K)) M Q) : jo (jm_rd (jm_fI [11] 2 (some t)) p) M Q := by
  obtain ⟨ar, rr, rf, h1, -⟩ := h
  exact jo_fI h1 (by decide) rfl kk
theorem jT_cl {p : Nat → jm_P β} (h : jTb t R K F M.2.2) (kk : jo (p t) M Q) : jo (jm_rd (jm_cl 11 (some t)) p) M Q := by
  obtain ⟨ar, rr, rf, h1, -⟩ := h
  exact jo_cl h1 kk
theorem jT_at {p : Int64 → jm_P β} (h : jTb t R K F M.2.2) {i j : Nat} {i' j' : Int32} (hi' : i' = nI i) (hj' : j' = nI j) (hi : i < R) (hj : j < K) (hR : R < 2 ^ 31) (hK : K < 2 ^ 31) (kk : jo (p (jI (F i j))) M Q) : jo (jm_rd (jm_fR [11] 0 (some t)) fun x => jm_rd (jm_ldR 13 x i') fun y => jm_rd (jm_ldJ 2 y j') p) M Q := by
  obtain ⟨ar, rr, rf, h1, h2, h3, h4⟩ := h
  obtain ⟨e1, g, g1, g2⟩ := h3 i hi
  refine jo_fR h1 (by decide) rfl (jo_ldR h2 hi' hi hR ?_)
  rw [e1]
  refine jo_ldJ g1 hj' hj hK ?_
  rw [g2 j hj]
  exact kk
/-- new rows of an array of arrays -/
theorem jX_mlJ (hM : ∀ a, md a = true → a < M0.1) (hE : jExt md c s M0 M) {k : Nat → jm_P β} (kk : ∀ (q : Nat) (r : Nat → Nat) (cr : Nat → Option Nat) M1, jMk md M.2.2 q = none → (∀ j, jMk md M.2.2 (r j) = none) → (∀ j, q ≠ r j) → (∀ i j, r i = r j → i = j) → (∀ j, j < R → cr j = some (r j)) → jSub (jMk md M.2.2) (jMk md M1.2.2) → jMk md M1.2.2 q = some (aR 13 R cr) → (∀ j, j < R → jMk md M1.2.2 (r j) = some (aJ K (fun _ => 0))) → (∀ a e, jMk md M1.2.2 a = some e → jMk md M.2.2 a = none → (∃ x, e = .inl x)) → jExt md (c + 1 + R) (s + R + R * K) M0 M1 → jo (k q) M1 Q) : jo (jm_ml 13 2 R K (.inr (.inl (fun _ => 0))) k) M Q := by
  have hm : ∀ a, M.1 ≤ a → md a = false := fun a ha => by
    cases h : md a
    · rfl
    · exact absurd (hE.md hM _ h) (by omega)
  obtain ⟨h1, h2, h3, h4, h5⟩ := hE
  show jo (k M.1) (jm_mul 13 2 R K (.inr (.inl (fun _ => 0))) M) Q
  have hn : ∀ a, M.1 ≤ a → jMk md M.2.2 a = none := fun a ha => by unfold jMk; rw [h5 a ha]; split <;> rfl
  refine kk M.1 (fun j => M.1 + 1 + j) (fun j => if j < R then some (M.1 + 1 + j) else none) _ (hn _ (Nat.le_refl _)) (fun j => hn _ (by omega)) (fun j => by omega) (fun i j h => by omega) (fun j hj => if_pos hj) ?_ ?_ ?_ ?_ ⟨?_, ?_, ?_, ?_, ?_⟩
  · intro a e ha
    have g := mkg ha
    have la : ¬ M.1 ≤ a := fun y => by rw [hn a y] at ha; cases ha
    show (if md a = true then none else (if a = M.1 then _ else if M.1 < a ∧ a < M.1 + 1 + R then _ else M.2.2 a)) = _
    rw [if_neg (by rw [g.1]; simp), if_neg (by omega), if_neg (by omega)]
    exact g.2
  · show (if md M.1 = true then none else (if M.1 = M.1 then _ else _)) = _
    rw [if_neg (by rw [hm _ (Nat.le_refl _)]; simp), if_pos rfl]
  · intro j hj
    show (if md (M.1 + 1 + j) = true then none else (if M.1 + 1 + j = M.1 then _ else if M.1 < M.1 + 1 + j ∧ M.1 + 1 + j < M.1 + 1 + R then _ else _)) = _
    rw [if_neg (by rw [hm _ (by omega)]; simp), if_neg (by omega), if_pos (by omega)]
  · intro a e ha hb
    have ha : (if md a = true then none else (if a = M.1 then some (.inl (13, R, .inr (.inr (.inr (.inr _))))) else if M.1 < a ∧ a < M.1 + 1 + R then some (.inl (2, K, .inr (.inl _))) else M.2.2 a)) = some e := ha
    by_cases c1 : md a = true
    · rw [if_pos c1] at ha; cases ha
    rw [if_neg c1] at ha
    by_cases c2 : a = M.1
    · rw [if_pos c2] at ha
      cases ha
      exact ⟨_, rfl⟩
    rw [if_neg c2] at ha
    by_cases c3 : M.1 < a ∧ a < M.1 + 1 + R
    · rw [if_pos c3] at ha
      cases ha
      exact ⟨_, rfl⟩
    rw [if_neg c3] at ha
    unfold jMk at hb
    rw [if_neg c1, ha] at hb
    cases hb
  · show M0.1 ≤ M.1 + 1 + R; omega
  · show M.1 + 1 + R ≤ _; omega
  · show M.2.1 + R + R * K ≤ _; omega
  · intro a ha
    have : a < M.1 := by
      rcases Nat.lt_or_ge a M.1 with y | y
      · exact y
      · rw [hm a y] at ha; cases ha
    show (if a = M.1 then _ else if M.1 < a ∧ a < M.1 + 1 + R then _ else M.2.2 a) = _
    rw [if_neg (by omega), if_neg (by omega)]
    exact h4 a ha
  · intro a ha
    have ha : M.1 + 1 + R ≤ a := ha
    show (if a = M.1 then _ else if M.1 < a ∧ a < M.1 + 1 + R then _ else M.2.2 a) = _
    rw [if_neg (by omega), if_neg (by omega)]
    exact h5 a (by omega)
end TB
