/-! PLAIN LAW, 90: what stands after complex and face -/
section SX
variable {n : Nat} {t : Nat → Nat} {C : CX} {T : ST}
theorem pDigit_e {lo hi i : Nat} {e : PE} (h : pDigit n t lo hi i = .inl e) : e.1 < 4 := by
  unfold pDigit at h
  split at h
  · cases h; exact Nat.le_of_ble_eq_true rfl
  · split at h
    · cases h; exact Nat.le_of_ble_eq_true rfl
    · cases h
theorem pStop_e {i : Nat} {e : PE} (h : pStop n t i = .inl e) : e.1 < 4 := by
  unfold pStop at h
  split at h
  · cases h
  · cases h; exact Nat.le_of_ble_eq_true rfl
theorem pEdge_e {i : Nat} {e : PE} (h : pEdge n t C i = .inl e) : e.1 < 4 := by
  unfold pEdge at h
  split at h
  · cases h; exact Nat.le_of_ble_eq_true rfl
  cases h1 : pDigit n t 0 (cP C) (i + 1) with
  | inl e1 => rw [h1] at h; cases h; exact pDigit_e h1
  | inr p =>
    rw [h1] at h
    dsimp only at h
    cases h2 : pDigit n t 0 (cP C) (i + 2) with
    | inl e1 => rw [h2] at h; cases h; exact pDigit_e h2
    | inr u =>
      rw [h2] at h
      dsimp only at h
      cases h3 : pDigit n t 1 4 (i + 3) with
      | inl e1 => rw [h3] at h; cases h; exact pDigit_e h3
      | inr w =>
        rw [h3] at h
        dsimp only at h
        cases h4 : pStop n t (i + 4) with
        | inl e1 => rw [h4] at h; cases h; exact pStop_e h4
        | inr _ => rw [h4] at h; cases h
theorem pEdge_wf {i : Nat} {x : CX × Nat} (hW : jWf C) (h : pEdge n t C i = .inr x) : jWf x.1 ∧ cP x.1 = cP C := by
  have h6 := hW.2.1
  unfold pEdge at h
  split at h
  · cases h
  cases h1 : pDigit n t 0 (cP C) (i + 1) with
  | inl e1 => rw [h1] at h; cases h
  | inr p =>
    rw [h1] at h
    dsimp only at h
    cases h2 : pDigit n t 0 (cP C) (i + 2) with
    | inl e1 => rw [h2] at h; cases h
    | inr u =>
      rw [h2] at h
      dsimp only at h
      cases h3 : pDigit n t 1 4 (i + 3) with
      | inl e1 => rw [h3] at h; cases h
      | inr w =>
        rw [h3] at h
        dsimp only at h
        have r1 := pDigit_rg h1
        have r2 := pDigit_rg h2
        have r3 := pDigit_rg h3
        cases h4 : pStop n t (i + 4) with
        | inl e1 => rw [h4] at h; cases h
        | inr _ =>
          rw [h4] at h
          cases h
          exact ⟨jWf_edge hW (by omega) (by omega) (by omega) (by omega), rfl⟩
theorem pWord_e {i : Nat} {e : PE} : ∀ (g k : Nat), pWord n t C i g k = .inl e → e.1 < 4 := by
  intro g
  induction g with
  | zero => intro k h; unfold pWord at h; cases h
  | succ g ih =>
    intro k h
    unfold pWord at h
    split at h
    · split at h
      · exact ih _ h
      · cases h; exact Nat.le_of_ble_eq_true rfl
    · cases h
theorem pFace_e {i : Nat} {e : PE} (h : pFace n t C i = .inl e) : e.1 < 4 := by
  unfold pFace at h
  split at h
  · cases h; exact Nat.le_of_ble_eq_true rfl
  cases h1 : pDigit n t 1 4 (i + 1) with
  | inl e1 => rw [h1] at h; cases h; exact pDigit_e h1
  | inr w =>
    rw [h1] at h
    dsimp only at h
    cases h2 : pWord n t C (i + 2) 6 0 with
    | inl e1 => rw [h2] at h; cases h; exact pWord_e _ _ h2
    | inr k =>
      rw [h2] at h
      dsimp only at h
      split at h
      · cases h; exact Nat.le_of_ble_eq_true rfl
      · split at h
        · split at h
          · cases h
          · cases h; exact Nat.le_of_ble_eq_true rfl
        · cases h; exact Nat.le_of_ble_eq_true rfl
theorem wLs_of {L : Nat → Int} {k : Nat} (hW : jWf C) (hl : ∀ j, ∃ b, L j = lb C b) (h : ∀ j, j < k → wNx C L j (L j) = true) : wLs C L k ∧ (0 < k → k ≤ 4) := by
  refine ⟨fun j hj => ?_, fun hk => ?_⟩
  · have := h j hj
    unfold wNx at this
    have := of_decide_eq_true this
    obtain ⟨b, hb⟩ := hl j
    have r := lb_rg hW b
    rw [← hb] at r
    exact ⟨this.1, r.1, r.2⟩
  · have := h (k - 1) (by omega)
    unfold wNx at this
    have := of_decide_eq_true this
    omega
theorem pFace_wf {i : Nat} {x : CX × Nat} (hW : jWf C) (h : pFace n t C i = .inr x) : jWf x.1 ∧ cP x.1 = cP C := by
  have h6 := hW.2.2.1
  unfold pFace at h
  split at h
  · cases h
  cases h1 : pDigit n t 1 4 (i + 1) with
  | inl e1 => rw [h1] at h; cases h
  | inr w =>
    rw [h1] at h
    dsimp only at h
    cases h2 : pWord n t C (i + 2) 6 0 with
    | inl e1 => rw [h2] at h; cases h
    | inr k =>
      rw [h2] at h
      dsimp only at h
      have r1 := pDigit_rg h1
      obtain ⟨-, hj⟩ := pWord_inr 6 0 k h2
      have wl := wLs_of (L := fun j => lb C (t (i + 2 + j))) (k := k) hW (fun j => ⟨_, rfl⟩) (fun j hj' => (hj j (by omega) hj').2)
      split at h
      · cases h
      · split at h
        · split at h
          · cases h
            exact ⟨jWf_face hW (by omega) (by omega) ⟨by omega, wl.2 (by omega)⟩ wl.1, rfl⟩
          · cases h
        · cases h
theorem pEdges_wf : ∀ (g : Nat) (C : CX) (i : Nat), jWf C → (∀ e, pEdges n t g C i = .inl e → e.1 < 4) ∧ ∀ x, pEdges n t g C i = .inr x → jWf x.1 ∧ cP x.1 = cP C := by
  intro g
  induction g with
  | zero => intro C i hW; exact ⟨fun e h => (by unfold pEdges at h; cases h), fun x h => by unfold pEdges at h; cases h; exact ⟨hW, rfl⟩⟩
  | succ g ih =>
    intro C i hW
    unfold pEdges
    by_cases c : i < n ∧ t i = 101
    · rw [if_pos c]
      cases h1 : pEdge n t C i with
      | inl e => exact ⟨fun e' h => by cases h; exact pEdge_e h1, fun x h => by cases h⟩
      | inr x =>
        dsimp only
        obtain ⟨w1, w2⟩ := pEdge_wf hW h1
        have := ih x.1 x.2 w1
        exact ⟨this.1, fun y h => ⟨(this.2 y h).1, (this.2 y h).2.trans w2⟩⟩
    · rw [if_neg c]
      exact ⟨fun e h => (by cases h), fun x h => by cases h; exact ⟨hW, rfl⟩⟩
theorem pFaces_wf : ∀ (g : Nat) (C : CX) (i : Nat), jWf C → (∀ e, pFaces n t g C i = .inl e → e.1 < 4) ∧ ∀ x, pFaces n t g C i = .inr x → jWf x.1 ∧ cP x.1 = cP C := by
  intro g
  induction g with
  | zero => intro C i hW; exact ⟨fun e h => (by unfold pFaces at h; cases h), fun x h => by unfold pFaces at h; cases h; exact ⟨hW, rfl⟩⟩
  | succ g ih =>
    intro C i hW
    unfold pFaces
    by_cases c : i < n ∧ t i = 102
    · rw [if_pos c]
      cases h1 : pFace n t C i with
      | inl e => exact ⟨fun e' h => by cases h; exact pFace_e h1, fun x h => by cases h⟩
      | inr x =>
        dsimp only
        obtain ⟨w1, w2⟩ := pFace_wf hW h1
        have := ih x.1 x.2 w1
        exact ⟨this.1, fun y h => ⟨(this.2 y h).1, (this.2 y h).2.trans w2⟩⟩
    · rw [if_neg c]
      exact ⟨fun e h => (by cases h), fun x h => by cases h; exact ⟨hW, rfl⟩⟩
theorem jWf_x0 {p : Nat} (h : p ≤ 5) : jWf (x0 p) := ⟨h, Nat.zero_le _, Nat.zero_le _, fun e he => absurd he (Nat.not_lt_zero _), fun f hf => absurd hf (Nat.not_lt_zero _), fun c e _ he => absurd he (Nat.not_lt_zero _)⟩
theorem pAll_wf : (∀ e, pAll n t = .inl e → e.1 < 4) ∧ ∀ C, pAll n t = .inr C → jWf C ∧ 0 < cP C := by
  unfold pAll
  by_cases c : ¬ (0 < n ∧ t 0 = 99)
  · rw [if_pos c]
    exact ⟨fun e h => by cases h; exact Nat.le_of_ble_eq_true rfl, fun x h => by cases h⟩
  rw [if_neg c]
  cases h1 : pDigit n t 1 6 1 with
  | inl e => exact ⟨fun e h => by cases h; exact pDigit_e h1, fun x h => by cases h⟩
  | inr p =>
    dsimp only
    cases h2 : pStop n t 2 with
    | inl e => exact ⟨fun e h => by cases h; exact pStop_e h2, fun x h => by cases h⟩
    | inr _ =>
      dsimp only
      have r1 := pDigit_rg h1
      have e1 := pEdges_wf (n := n) (t := t) 8 (x0 p) 3 (jWf_x0 (by omega))
      cases h3 : pEdges n t 8 (x0 p) 3 with
      | inl e => exact ⟨fun e h => by cases h; exact e1.1 _ h3, fun x h => by cases h⟩
      | inr x =>
        dsimp only
        obtain ⟨a1, a2⟩ := e1.2 _ h3
        have e2 := pFaces_wf (n := n) (t := t) 8 x.1 x.2 a1
        cases h4 : pFaces n t 8 x.1 x.2 with
        | inl e => exact ⟨fun e h => by cases h; exact e2.1 _ h4, fun x h => by cases h⟩
        | inr y =>
          dsimp only
          obtain ⟨b1, b2⟩ := e2.2 _ h4
          by_cases c2 : tk n t y.2 = 0
          · rw [if_pos c2]
            exact ⟨fun e h => (by cases h), fun x h => by cases h; exact ⟨b1, by rw [b2, a2]; show 0 < p; omega⟩⟩
          · rw [if_neg c2]
            exact ⟨fun e h => by cases h; exact Nat.le_of_ble_eq_true rfl, fun x h => by cases h⟩
theorem oComplex_wf (h : jWfS T) : jWfS (oComplex T).2 := by
  have hp := pAll_wf (n := sTaped T) (t := sTape T)
  unfold oComplex
  cases h1 : pAll (sTaped T) (sTape T) with
  | inl e =>
    exact ⟨h.1, h.2.1, h.2.2.1, h.2.2.2.1, h.2.2.2.2.1, Nat.zero_le _, fun i hi => absurd hi (Nat.not_lt_zero _), hp.1 e h1⟩
  | inr C =>
    have hp := hp.2 C h1
    exact ⟨hp.1, fun y => absurd hp.2 (by have : cP C = 0 := y; omega), Nat.zero_le _, fun i hi => absurd hi (Nat.not_lt_zero _), h.2.2.2.2.1, Nat.zero_le _, fun i hi => absurd hi (Nat.not_lt_zero _), h.2.2.2.2.2.2.2⟩
theorem oFace_wf (h : jWfS T) {w : Int32} : jWfS (oFace T w).2 := by
  have h0 := jWfS_0 h
  unfold oFace
  split
  · exact h0
  rename_i hp
  split
  · exact h0
  rename_i hc
  split
  · exact h0
  rename_i h4
  have hp : 0 < cP (sC T) := Classical.byContradiction fun y => hp y
  have hw : 1 ≤ w.toInt ∧ w.toInt ≤ 3 := Classical.byContradiction fun y => hc (.inl y)
  have ok : wOk (sC T) (tLt T) (sTaped T) = true := Classical.byContradiction fun y => hc (.inr y)
  unfold wOk at ok
  rw [Bool.and_eq_true, Bool.and_eq_true, decide_eq_true_iff, jall_iff] at ok
  have wl := wLs_of (L := tLt T) (k := sTaped T) h.1 (fun j => ⟨_, rfl⟩) ok.1.2
  have f4 := h.1.2.2.1
  exact h0.push hp (jWf_face h.1 (by omega) (by unfold tn; omega) ok.1.1 wl.1) hp
end SX
