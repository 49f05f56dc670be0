/-! PLAIN LAW, 68: what stands after each act -/
section ST
variable {T : ST} {C : CX}
theorem jWfS.push (h : jWfS T) (hp : 0 < cP (sC T)) {C' : CX} (hW : jWf C') (hp' : 0 < cP C') : jWfS (sPush T C') := by
  obtain ⟨w1, w2, w3, w4, w5, w6, w7, w8⟩ := h
  refine ⟨hW, fun y => absurd (show cP C' = 0 from y) (by omega), ?_, ?_, w5, w6, w7, w8⟩
  · show (sPush T C').2.1.1 ≤ 8
    unfold sPush
    by_cases c8 : sActs T = 8
    · rw [if_pos c8]; exact Nat.le_refl 8
    · rw [if_neg c8]; show sActs T + 1 ≤ 8; omega
  · show ∀ i, i < (sPush T C').2.1.1 → jWfP ((sPush T C').2.1.2 i)
    unfold sPush
    by_cases c8 : sActs T = 8
    · rw [if_pos c8]
      intro i hi
      have hi : i < 8 := hi
      show jWfP (if i < 7 then sPast T (i + 1) else sC T)
      by_cases c : i < 7
      · rw [if_pos c]; exact w4 _ (by omega)
      · rw [if_neg c]; exact ⟨w1, hp⟩
    · rw [if_neg c8]
      intro i hi
      have hi : i < sActs T + 1 := hi
      show jWfP (if i = sActs T then sC T else sPast T i)
      by_cases c : i = sActs T
      · rw [if_pos c]; exact ⟨w1, hp⟩
      · rw [if_neg c]; exact w4 _ (by omega)
theorem jWf_put (hW : jWf C) {c e : Nat} {v : Int} (hv : -9 ≤ v ∧ v ≤ 9) : jWf (xPut C c e v) := by
  refine jWf_ch hW (fun c' e' hc he => ?_)
  split
  · exact hv
  · exact hW.2.2.2.2.2 c' e' hc he
theorem jWf_wgE (hW : jWf C) {k w : Nat} (hw : 1 ≤ w ∧ w ≤ 3) : jWf (xWgE C k w) := by
  obtain ⟨h1, h2, h3, h4, h5, h6⟩ := hW
  refine ⟨h1, h2, h3, fun e he => ?_, h5, h6⟩
  have := h4 e he
  show (if e = k ∧ 0 = 2 then w else cEd C e 0) < cP C ∧ (if e = k ∧ 1 = 2 then w else cEd C e 1) < cP C ∧ 1 ≤ (if e = k ∧ 2 = 2 then w else cEd C e 2) ∧ (if e = k ∧ 2 = 2 then w else cEd C e 2) ≤ 3
  rw [if_neg (by omega), if_neg (by omega)]
  refine ⟨this.1, this.2.1, ?_⟩
  split
  · exact hw
  · exact this.2.2
theorem jWf_wgF (hW : jWf C) {k w : Nat} (hw : 1 ≤ w ∧ w ≤ 3) : jWf (xWgF C k w) := by
  obtain ⟨h1, h2, h3, h4, h5, h6⟩ := hW
  refine ⟨h1, h2, h3, h4, fun f hf => ?_, h6⟩
  obtain ⟨a1, a2, a3⟩ := h5 f hf
  show 1 ≤ (if f = k then w else cFw C f) ∧ (if f = k then w else cFw C f) ≤ 3 ∧ _
  refine ⟨?_, ?_, a3⟩ <;> split <;> omega
theorem oUndo_wf (h : jWfS T) : jWfS (oUndo T).2 := by
  unfold oUndo
  by_cases c : sActs T = 0
  · rw [if_pos c]; exact h
  rw [if_neg c]
  obtain ⟨w1, w2, w3, w4, w5, w6, w7, w8⟩ := h
  have h1 := w4 (sActs T - 1) (by omega)
  refine ⟨h1.1, fun y => absurd (show cP (sPast T (sActs T - 1)) = 0 from y) (by have := h1.2; omega), ?_, fun i hi => w4 i ?_, w5, w6, w7, w8⟩
  · show sActs T - 1 ≤ 8; omega
  · have hi : i < sActs T - 1 := hi
    omega
theorem oImage_wf (h : jWfS T) {k : Int32} : jWfS (oImage T k).2 := by
  unfold oImage
  by_cases c : ¬ (0 ≤ k.toInt ∧ k.toInt ≤ 1)
  · rw [if_pos c]; exact h
  rw [if_neg c]
  by_cases c2 : ¬ 0 < cP (sC T)
  · rw [if_pos c2]; exact h
  rw [if_neg c2]
  obtain ⟨w1, w2, w3, w4, w5, w6, w7, w8⟩ := h
  refine ⟨w1, w2, w3, w4, fun i C hi hC => ?_, w6, w7, w8⟩
  have hC : va_up (sImg T) (tn k) (some (sC T)) i = some C := hC
  unfold va_up at hC
  by_cases e : i = tn k
  · rw [if_pos e] at hC
    cases hC
    exact ⟨w1, by omega⟩
  · rw [if_neg e] at hC
    exact w5 i C hi hC
theorem oRestore_wf (h : jWfS T) {k : Int32} : jWfS (oRestore T k).2 := by
  unfold oRestore
  by_cases c : ¬ (0 ≤ k.toInt ∧ k.toInt ≤ 1)
  · rw [if_pos c]; exact h
  rw [if_neg c]
  cases e : sImg T (tn k) with
  | none => exact h
  | some C =>
    obtain ⟨w1, w2, w3, w4, w5, w6, w7, w8⟩ := h
    have h1 := w5 (tn k) C (by unfold tn; omega) e
    exact ⟨h1.1, fun y => absurd (show cP C = 0 from y) (by have := h1.2; omega), Nat.zero_le _, fun i hi => absurd (show i < 0 from hi) (by omega), w5, w6, w7, w8⟩
theorem oFeed_wf (h : jWfS T) {x : Int32} : jWfS (oFeed T x).2 := by
  unfold oFeed
  by_cases c : ¬ (0 ≤ x.toInt ∧ x.toInt ≤ 255)
  · rw [if_pos c]; exact h
  rw [if_neg c]
  by_cases c2 : sTaped T = 90
  · rw [if_pos c2]; exact h
  rw [if_neg c2]
  obtain ⟨w1, w2, w3, w4, w5, w6, w7, w8⟩ := h
  refine ⟨w1, w2, w3, w4, w5, ?_, fun i hi => ?_, w8⟩
  · show sTaped T + 1 ≤ 90; omega
  · have hi : i < sTaped T + 1 := hi
    show va_up (sTape T) (sTaped T) (tn x) i < 256
    unfold va_up
    by_cases e : i = sTaped T
    · rw [if_pos e]; unfold tn; omega
    · rw [if_neg e]; exact w7 i (by omega)
theorem oPut_wf (h : jWfS T) {c e v : Int32} : jWfS (oPut T c e v).2 := by
  unfold oPut
  by_cases k : ¬ cIsChain (sC T) c ∨ ¬ cIsCell (sC T) 1 e ∨ ¬ (-9 ≤ v.toInt ∧ v.toInt ≤ 9)
  · rw [if_pos k]; exact h
  rw [if_neg k]
  have k1 : cIsChain (sC T) c := Classical.byContradiction fun y => k (.inl y)
  have k3 : -9 ≤ v.toInt ∧ v.toInt ≤ 9 := Classical.byContradiction fun y => k (.inr (.inr y))
  exact h.push k1.1 (jWf_put h.1 k3) k1.1
theorem oWeigh_wf (h : jWfS T) {d k w : Int32} : jWfS (oWeigh T d k w).2 := by
  unfold oWeigh
  by_cases g : d = 0 ∨ ¬ cIsCell (sC T) d k ∨ ¬ (1 ≤ w.toInt ∧ w.toInt ≤ 3)
  · rw [if_pos g]; exact h
  rw [if_neg g]
  have g2 : cIsCell (sC T) d k := Classical.byContradiction fun y => g (.inr (.inl y))
  have g3 : 1 ≤ w.toInt ∧ w.toInt ≤ 3 := Classical.byContradiction fun y => g (.inr (.inr y))
  have hp := cell_pos h.2.1 g2
  have hw : 1 ≤ tn w ∧ tn w ≤ 3 := by unfold tn; omega
  show jWfS (sPush T (if d = 1 then xWgE (sC T) (tn k) (tn w) else xWgF (sC T) (tn k) (tn w)))
  by_cases c : d = 1
  · rw [if_pos c]; exact h.push hp (jWf_wgE h.1 hw) hp
  · rw [if_neg c]; exact h.push hp (jWf_wgF h.1 hw) hp
theorem oEdge_wf (h : jWfS T) {p q w : Int32} : jWfS (oEdge T p q w).2 := by
  unfold oEdge
  by_cases k1 : ¬ 0 < cP (sC T)
  · rw [if_pos k1]; exact h
  rw [if_neg k1]
  by_cases k : ¬ cIsCell (sC T) 0 p ∨ ¬ cIsCell (sC T) 0 q ∨ ¬ (1 ≤ w.toInt ∧ w.toInt ≤ 3)
  · rw [if_pos k]; exact h
  rw [if_neg k]
  by_cases k6 : cE (sC T) = 6
  · rw [if_pos k6]; exact h
  rw [if_neg k6]
  have g1 : cIsCell (sC T) 0 p := Classical.byContradiction fun y => k (.inl y)
  have g2 : cIsCell (sC T) 0 q := Classical.byContradiction fun y => k (.inr (.inl y))
  have g3 : 1 ≤ w.toInt ∧ w.toInt ≤ 3 := Classical.byContradiction fun y => k (.inr (.inr y))
  have hp : 0 < cP (sC T) := by omega
  have hE := h.1.2.1
  have q1 : tn p < cP (sC T) := by
    have a := g1.2
    have : cMany (sC T) (0 : Int32).toInt.toNat = cP (sC T) := rfl
    rw [this] at a
    unfold tn; omega
  have q2 : tn q < cP (sC T) := by
    have a := g2.2
    have : cMany (sC T) (0 : Int32).toInt.toNat = cP (sC T) := rfl
    rw [this] at a
    unfold tn; omega
  exact h.push hp (jWf_edge h.1 (by omega) q1 q2 (by unfold tn; omega)) hp
theorem oBound_wf (h : jWfS T) {c f t : Int32} : jWfS (oBound T c f t).2 := by
  unfold oBound
  by_cases k : ¬ cIsChain (sC T) c ∨ ¬ cIsCell (sC T) 2 f ∨ ¬ (-9 ≤ t.toInt ∧ t.toInt ≤ 9)
  · rw [if_pos k]; exact h
  rw [if_neg k]
  have k1 : cIsChain (sC T) c := Classical.byContradiction fun y => k (.inl y)
  by_cases k2 : cBdOk (sC T) (tn c) (tn f) t.toInt = true
  · rw [if_pos k2]; exact h.push k1.1 (jWf_bound h.1 k2 (Nat.le_refl _)) k1.1
  · rw [if_neg k2]; exact h
theorem oDrawn_wf (h : jWfS T) {c x : Int32} : jWfS (oDrawn T c x).2 := by
  unfold oDrawn
  by_cases k1 : ¬ 0 < cP (sC T)
  · rw [if_pos k1]; exact h
  rw [if_neg k1]
  by_cases k : ¬ (0 ≤ c.toInt ∧ c.toInt ≤ 2) ∨ ¬ (1 ≤ x.toInt ∧ x.toInt ≤ 999999)
  · rw [if_pos k]; exact h
  rw [if_neg k]
  exact h.push (by omega) (jWf_drawn h.1) (show 0 < cP (sC T) by omega)
end ST
