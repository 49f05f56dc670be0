/-! PLAIN LAW, 91: both sides at once -/
def mdl (m : Nat) (ad : Nat → Nat) : List Nat := [m, ad 0, ad 1, ad 2, ad 4, ad 5, ad 6, ad 15, ad 16, ad 18, ad 19, ad 20, ad 21]
/-- the model's cells -/
def mdf (m : Nat) (ad : Nat → Nat) (a : Nat) : Bool := decide (a ∈ mdl m ad)
theorem mdf_m {m : Nat} {ad : Nat → Nat} : mdf m ad m = true := by unfold mdf mdl; simp
theorem mdf_k {m : Nat} {ad : Nat → Nat} {k : Nat} (h : jM_ia k ∨ jM_ja k) : mdf m ad (ad k) = true := by
  unfold mdf mdl
  unfold jM_ia jM_ja at h
  rcases h with (rfl | rfl | rfl | rfl | rfl | rfl) | (rfl | rfl | rfl | rfl | rfl | rfl) <;> simp
theorem mdf_f {m : Nat} {ad : Nat → Nat} {a : Nat} (h : ¬ mdf m ad a = true) : a ≠ m ∧ ∀ k, jM_ia k ∨ jM_ja k → a ≠ ad k :=
  ⟨fun e => h (by rw [e]; exact mdf_m), fun k hk e => h (by rw [e]; exact mdf_k hk)⟩
/-- both hold the state -/
def jInv (x m : Nat) (ad : Nat → Nat) (T : ST) (M : Mem) : Prop := jRX x T (jMk (mdf m ad) M.2.2) ∧ (∃ S, jRepM m ad S M ∧ jRM T S) ∧ jApM m ad ∧ jWfS T ∧ (∀ a, M.1 ≤ a → M.2.2 a = none) ∧ ∀ a, mdf m ad a = true → a < M.1
/-- the two calls answer alike, and make no more than c cells and s slots -/
def jBoth {α : Type} (x m : Nat) (ad : Nat → Nat) (c s : Nat) (p0 p1 : jm_P α) : Prop := ∀ T M, jInv x m ad T M → jo p0 M (fun r M1 => (∃ vs, M1.2.2 m = some (.inr (1, vs))) ∧ jo p1 M1 (fun r' M2 => r = r' ∧ (∃ T', jInv x m ad T' M2) ∧ M2.1 ≤ M.1 + c ∧ M2.2.1 ≤ M.2.1 + s))
theorem jBoth.mono {α : Type} {x m c s c' s' : Nat} {ad : Nat → Nat} {p0 p1 : jm_P α} (h : jBoth x m ad c s p0 p1) (h1 : c ≤ c') (h2 : s ≤ s') : jBoth x m ad c' s' p0 p1 := fun T M hI =>
  jo_mono (h T M hI) (fun _ _ g => ⟨g.1, jo_mono g.2 (fun _ _ k => ⟨k.1, k.2.1, Nat.le_trans k.2.2.1 (by omega), Nat.le_trans k.2.2.2 (by omega)⟩)⟩)
theorem jBoth_gen {α : Type} {x m c s : Nat} {ad : Nat → Nat} {p0 p1 : jm_P α} (v : ST → α) (f : ST → ST)
    (h0 : ∀ T M, jInv x m ad T M → jo p0 M (fun r M' => r = v T ∧ jRX x (f T) (jMk (mdf m ad) M'.2.2) ∧ jExt (mdf m ad) c s M M'))
    (h1 : ∀ T S M, jMM m ad M S M → jRM T S → jWfS T → jo p1 M (fun r M' => r = v T ∧ ∃ S', jMM m ad M S' M' ∧ jRM (f T) S'))
    (hw : ∀ T, jWfS T → jWfS (f T)) : jBoth x m ad c s p0 p1 := by
  intro T M hI
  have h0 := h0 T M hI
  obtain ⟨hR, ⟨S, ⟨s1, s2, s3⟩, hT⟩, hA, hW, hn, hm⟩ := hI
  refine jo_mono h0 ?_
  rintro r M1 ⟨rfl, hR1, e1, e2, e3, e4, e5⟩
  have hS1 : jRepM m ad S M1 := ⟨by rw [e4 m mdf_m]; exact s1, fun k hk => by rw [e4 _ (mdf_k (.inl hk))]; exact s2 k hk, fun k hk => by rw [e4 _ (mdf_k (.inr hk))]; exact s3 k hk⟩
  refine ⟨⟨_, hS1.1⟩, jo_mono (h1 T S M1 (jMM.start hS1 hA) hT hW) ?_⟩
  rintro r' M2 ⟨rfl, S', hMM, hT'⟩
  obtain ⟨g1, g2, g3⟩ := hMM.2.2
  have ej : jMk (mdf m ad) M2.2.2 = jMk (mdf m ad) M1.2.2 := by
    funext a
    unfold jMk
    by_cases c : mdf m ad a = true
    · rw [if_pos c, if_pos c]
    · rw [if_neg c, if_neg c]
      exact g3 a (mdf_f c).1 (mdf_f c).2
  refine ⟨rfl, ⟨f T, by rw [ej]; exact hR1, ⟨S', hMM.1, hT'⟩, hA, hw T hW, fun a ha => ?_, fun a ha => by have := hm a ha; omega⟩, by omega, by omega⟩
  by_cases c : mdf m ad a = true
  · have := hm a c
    omega
  · rw [g3 a (mdf_f c).1 (mdf_f c).2]
    exact e5 a (by omega)
/-- acts: the answer and the state of an operation -/
theorem jBoth_act {x m c s : Nat} {ad : Nat → Nat} {p0 p1 : jm_P Int32} (o : ST → Int32 × ST)
    (h0 : ∀ T M, jRX x T (jMk (mdf m ad) M.2.2) → (∀ a, mdf m ad a = true → a < M.1) → jExt (mdf m ad) 0 0 M M → jWfS T → jo p0 M (jOX x (mdf m ad) (0 + c) (0 + s) M (o T)))
    (h1 : ∀ T S M, jMM m ad M S M → jRM T S → jWfS T → jo p1 M (jOM m ad M (o T)))
    (hw : ∀ T, jWfS T → jWfS (o T).2) : jBoth x m ad c s p0 p1 := by
  refine jBoth_gen (fun T => (o T).1) (fun T => (o T).2) (fun T M hI => ?_) h1 hw
  obtain ⟨hR, -, -, hW, hn, hm⟩ := hI
  have := h0 T M hR hm (jExt.rf hn) hW
  rw [Nat.zero_add, Nat.zero_add] at this
  exact this
/-- questions: nothing changes -/
theorem jBoth_ask {α : Type} {x m : Nat} {ad : Nat → Nat} {p0 p1 : jm_P α} (v : ST → α)
    (h0 : ∀ T M, jRX x T M.2.2 → jWfS T → p0.1 M = some (v T, M))
    (h1 : ∀ T S M, jMM m ad M S M → jRM T S → jWfS T → p1.1 M = some (v T, M)) : jBoth x m ad 0 0 p0 p1 := by
  refine jBoth_gen v id (fun T M hI => ?_) (fun T S M h hT hW => jo_of (h1 T S M h hT hW) ⟨rfl, S, h, hT⟩) (fun _ h => h)
  obtain ⟨hR, -, -, hW, hn, hm⟩ := hI
  exact jo_of (h0 T M (hR.sub jMk.sub) hW) ⟨rfl, hR, jExt.rf hn⟩
section JB
variable {N x m : Nat} {ad : Nat → Nat}
theorem jb_feed {v : Int32} : jBoth x m ad 0 0 (jf_X0_feed N x v) (jf_X1_feed N m v) := jBoth_act (fun T => oFeed T v) (fun _ _ h _ hE hW => jx_feed h hE hW) (fun _ _ _ h hT hW => jm_feed h hT hW) (fun _ h => oFeed_wf h)
theorem jb_complex (hN : 1000 < N) : jBoth x m ad 41 203 (jf_X0_complex N x) (jf_X1_complex N m) := jBoth_act (fun T => oComplex T) (fun _ _ h hM hE hW => jx_complex h hM hE hW hN) (fun _ _ _ h hT hW => jm_complex h hT hW hN) (fun _ h => oComplex_wf h)
theorem jb_fault : jBoth x m ad 0 0 (jf_X0_fault N x) (jf_X1_fault N m) := jBoth_ask (fun T => nI (sFault T)) (fun _ _ h _ => jx_fault h) (fun T S _ h hT _ => by rw [jr_fault h, hT.2.2.2.2.2.2])
theorem jb_undo (hN : 1000 < N) : jBoth x m ad 0 0 (jf_X0_undo N x) (jf_X1_undo N m) := jBoth_act (fun T => oUndo T) (fun _ _ h _ hE hW => jx_undo h hE hW) (fun _ _ _ h hT hW => jm_undo h hT hW hN) (fun _ h => oUndo_wf h)
theorem jb_weigh (hN : 1000 < N) {d k w : Int32} : jBoth x m ad 3 13 (jf_X0_weigh N x d k w) (jf_X1_weigh N m d k w) := jBoth_act (fun T => oWeigh T d k w) (fun _ _ h hM hE hW => jx_weigh h hM hE hW hN) (fun _ _ _ h hT hW => jm_weigh h hT hW hN) (fun _ h => oWeigh_wf h)
theorem jb_edge (hN : 1000 < N) {p q w : Int32} : jBoth x m ad 3 13 (jf_X0_edge N x p q w) (jf_X1_edge N m p q w) := jBoth_act (fun T => oEdge T p q w) (fun _ _ h hM hE hW => jx_edge h hM hE hW hN) (fun _ _ _ h hT hW => jm_edge h hT hW hN) (fun _ h => oEdge_wf h)
theorem jb_face (hN : 1000 < N) {w : Int32} : jBoth x m ad 8 31 (jf_X0_face N x w) (jf_X1_face N m w) := jBoth_act (fun T => oFace T w) (fun _ _ h hM hE hW => jx_face h hM hE hW hN) (fun _ _ _ h hT hW => jm_face h hT hW hN) (fun _ h => oFace_wf h)
theorem jb_drop (hN : 1000 < N) {d k : Int32} : jBoth x m ad 19 66 (jf_X0_drop N x d k) (jf_X1_drop N m d k) := jBoth_act (fun T => oDrop T d k) (fun _ _ h hM hE hW => jx_drop h hM hE hW hN) (fun _ _ _ h hT hW => jm_drop h hT hW hN) (fun _ h => oDrop_wf h)
theorem jb_put (hN : 1000 < N) {c e v : Int32} : jBoth x m ad 3 13 (jf_X0_put N x c e v) (jf_X1_put N m c e v) := jBoth_act (fun T => oPut T c e v) (fun _ _ h hM hE hW => jx_put h hM hE hW hN) (fun _ _ _ h hT hW => jm_put_op h hT hW hN) (fun _ h => oPut_wf h)
theorem jb_bound (hN : 1000 < N) {c f t : Int32} : jBoth x m ad 3 13 (jf_X0_bound N x c f t) (jf_X1_bound N m c f t) := jBoth_act (fun T => oBound T c f t) (fun _ _ h hM hE hW => jx_bound h hM hE hW hN) (fun _ _ _ h hT hW => jm_bound h hT hW hN) (fun _ h => oBound_wf h)
theorem jb_drawn (hN : 1000 < N) {c v : Int32} : jBoth x m ad 3 13 (jf_X0_drawn N x c v) (jf_X1_drawn N m c v) := jBoth_act (fun T => oDrawn T c v) (fun _ _ h hM hE hW => jx_drawn h hM hE hW hN) (fun _ _ _ h hT hW => jm_drawn h hT hW hN) (fun _ h => oDrawn_wf h)
theorem jb_cell {d k w : Int32} : jBoth x m ad 0 0 (jf_X0_cell N x d k w) (jf_X1_cell N m d k w) := jBoth_ask (fun T => aCell (sC T) d k w) (fun _ _ h hW => jx_cell h hW.1 hW.2.1) (fun _ _ _ h hT hW => jr_cell h hT.1 hW.1)
theorem jb_as (hN : 1000 < N) {d k w : Int32} : jBoth x m ad 5 33 (jf_X0_as N x d k w) (jf_X1_as N m d k w) := jBoth_act (fun T => (aAs (sC T) d k w, T)) (fun _ _ h hM hE hW => jx_as h hM hE hW.1 hW.2.1) (fun _ S _ h hT hW => jo_of (jr_as h hT.1 hW.1 (by omega)) ⟨rfl, S, h, hT⟩) (fun _ h => h)
theorem jb_table (hN : 1000 < N) {d i j : Int32} : jBoth x m ad 8 45 (jf_X0_table N x d i j) (jf_X1_table N m d i j) := jBoth_act (fun T => (aTable (sC T) d i j, T)) (fun _ _ h hM hE hW => jx_table h hM hE hW hN) (fun _ S _ h hT hW => jo_of (jr_table h hT.1 hW.1 (by omega)) ⟨rfl, S, h, hT⟩) (fun _ h => h)
theorem jb_near (hN : 1000 < N) {w i j : Int32} : jBoth x m ad 60 400 (jf_X0_near N x w i j) (jf_X1_near N m w i j) := jBoth_act (fun T => (aNear (sC T) w i j, T)) (fun _ _ h hM hE hW => jx_near h hM hE hW hN) (fun _ S _ h hT hW => jo_of (jr_nearOp h hT.1 hW.1 (by omega)) ⟨rfl, S, h, hT⟩) (fun _ h => h)
theorem jb_chain {c e : Int32} : jBoth x m ad 0 0 (jf_X0_chain N x c e) (jf_X1_chain N m c e) := jBoth_ask (fun T => aChain (sC T) c e) (fun _ _ h hW => jx_chain h hW.1 hW.2.1) (fun _ _ _ h hT hW => jr_chain h hT.1 hW.1)
theorem jb_ends (hN : 1000 < N) {c p : Int32} : jBoth x m ad 0 0 (jf_X0_ends N x c p) (jf_X1_ends N m c p) := jBoth_ask (fun T => aEnds (sC T) c p) (fun _ _ h hW => jx_ends h hW.1 hW.2.1 (by omega)) (fun _ _ _ h hT hW => jr_ends h hT.1 hW.1 (by omega))
theorem jb_image (hN : 1000 < N) {k : Int32} : jBoth x m ad 0 0 (jf_X0_image N x k) (jf_X1_image N m k) := jBoth_act (fun T => oImage T k) (fun _ _ h _ hE _ => jx_image h hE) (fun _ _ _ h hT hW => jm_image h hT hW hN) (fun _ h => oImage_wf h)
theorem jb_restore (hN : 1000 < N) {k : Int32} : jBoth x m ad 0 0 (jf_X0_restore N x k) (jf_X1_restore N m k) := jBoth_act (fun T => oRestore T k) (fun _ _ h _ hE hW => jx_restore h hE hW) (fun _ _ _ h hT hW => jm_restore h hT hW hN) (fun _ h => oRestore_wf h)
theorem jb_count {w : Int32} : jBoth x m ad 0 0 (jf_X0_count N x w) (jf_X1_count N m w) := jBoth_ask (fun T => aCount (sC T) (nI (sActs T)) (nI (sTaped T)) w) (fun _ _ h _ => jx_count h) (fun _ S _ h hT _ => by rw [jr_count h hT.1, hT.2.1, hT.2.2.2.2.1])
end JB
