/-! PLAIN LAW, 77: the weights; a table weighed: component -/
section WD
variable {md : Nat → Bool} {N c s R K : Nat} {M0 M : Mem} {F : Nat → Nat → Int} {C : CX}
theorem jx_weights (hM : ∀ a, md a = true → a < M0.1) (hE : jExt md c s M0 M) {a d : Nat} (h : jCx a C (jMk md M.2.2)) (hW : jWf C) (hd : d = 1 ∨ d = 2) (hN : 100 < N) : jo (jf_X9_weights N a (nI d)) M (jNew md (c + 1) (s + 6) M0 M (fun q H => ∃ g, H q = some (aI 0 (cCols C d) g) ∧ ∀ k, k < cCols C d → g k = nI (cWt C d k))) := by
  have h6 := hW.2.1
  have h4 := hW.2.2.1
  have hK : cCols C d ≤ 6 := by rcases hd with rfl | rfl; exact h6; exact Nat.le_trans h4 (by decide)
  have main : jo (jf_X9_weights_j18 N a (nI d) (nI (cCols C d))) M (jNew md (c + 1) (s + 6) M0 M (fun q H => ∃ g, H q = some (aI 0 (cCols C d) g) ∧ ∀ k, k < cCols C d → g k = nI (cWt C d k))) := by
    unfold jf_X9_weights_j18
    refine jo_ck (ckL (by omega)) ?_
    rw [nI_tc (by omega)]
    refine jX_al (hE.md hM) hE fun q M1 hq m1 e1 E1 => ?_
    refine jo_bd (jo_mono (jo_up (cCols C d) (fun i z M' => z = nI i ∧ jExt md (c + 1) (s + cCols C d) M0 M' ∧ ∃ g, jMk md M'.2.2 = va_up (jMk md M.2.2) q (some (aI 0 (cCols C d) g)) ∧ ∀ k, k < i → g k = nI (cWt C d k)) (fun _ M' => jExt md (c + 1) (s + cCols C d) M0 M' ∧ ∃ g, jMk md M'.2.2 = va_up (jMk md M.2.2) q (some (aI 0 (cCols C d) g)) ∧ ∀ k, k < cCols C d → g k = nI (cWt C d k)) ?_ ?_ N 0 _ M1 ⟨rfl, E1, _, e1, fun k hk => absurd hk (Nat.not_lt_zero _)⟩ (by omega) (by omega)) ?_)
    · rintro i z M' hi ⟨rfl, EE, g, ee, hg⟩
      have ss : jSub (jMk md M.2.2) (jMk md M'.2.2) := by rw [ee]; exact jSub.new hq
      have og : jMk md M'.2.2 q = some (aI 0 (cCols C d) g) := by rw [ee, va_up_self]
      unfold jf_X9_weights_L23
      refine jo_len (mkg og).2 rfl (jo_f (show ¬ nI (cCols C d) ≤ nI i by rw [nI_leI (by omega) (by omega)]; omega) ?_)
      have fin : jo (jf_X9_weights_j57 N a (nI d) (some q) (nI i) (some q) (nI i) (nI (cWt C d i))) M' (fun x M1 => match x with
          | .inl z => z = nI (i + 1) ∧ jExt md (c + 1) (s + cCols C d) M0 M1 ∧ ∃ g, jMk md M1.2.2 = va_up (jMk md M.2.2) q (some (aI 0 (cCols C d) g)) ∧ ∀ k, k < i + 1 → g k = nI (cWt C d k)
          | .inr _ => jExt md (c + 1) (s + cCols C d) M0 M1 ∧ ∃ g, jMk md M1.2.2 = va_up (jMk md M.2.2) q (some (aI 0 (cCols C d) g)) ∧ ∀ k, k < cCols C d → g k = nI (cWt C d k)) := by
        unfold jf_X9_weights_j57
        refine jX_stI og rfl hi (by omega) EE (fun M2 e2 E2 => jo_ret ⟨nI_1 i, E2, upd g i (nI (cWt C d i)), by rw [e2, ee, va_up2], fun k hk => ?_⟩)
        show (if k = i then _ else g k) = _
        by_cases ki : k = i
        · rw [if_pos ki, ki]
        · rw [if_neg ki]; exact hg k (by omega)
      rcases hd with rfl | rfl
      · refine jo_t (show nI 1 = 1 from rfl) (jx_ed ((h.kp ss.kp).kp jMk.sub.kp) hW hi fun b hb => jo_fI hb (mem_56 _ _) rfl ?_)
        exact jo_mono fin (fun r M' hr => by cases r <;> exact hr)
      · refine jo_f (show ¬ nI 2 = 1 by decide) (jx_fc ((h.kp ss.kp).kp jMk.sub.kp) hW hi fun b hb => ?_)
        obtain ⟨wa, g', b1, -⟩ := hb
        exact jo_fI b1 (mem_78 _) rfl (jo_mono fin (fun r M' hr => by cases r <;> exact hr))
    · rintro z M' ⟨rfl, EE, g, ee, hg⟩
      have og : jMk md M'.2.2 q = some (aI 0 (cCols C d) g) := by rw [ee, va_up_self]
      unfold jf_X9_weights_L23
      exact jo_len (mkg og).2 rfl (jo_t (show nI (cCols C d) ≤ nI (cCols C d) by rw [nI_leI (by omega) (by omega)]; omega) (jo_ret ⟨EE, g, ee, hg⟩))
    · rintro _ M' ⟨EE, g, ee, hg⟩
      unfold jf_X9_weights_k23_64
      exact jo_ret ⟨q, rfl, by rw [ee]; exact jSub.new hq, EE.mono (by omega) (by omega), g, by rw [ee, va_up_self], hg⟩
  obtain ⟨eA, fA, cA, h1, ⟨er, b1, b2⟩, ⟨fr, f1, f2⟩, -⟩ := h
  unfold jf_X9_weights
  rcases hd with rfl | rfl
  · exact jo_t (show nI 1 = 1 from rfl) (jo_fR (mkg h1).2 (by decide) rfl (jo_len (mkg b1).2 rfl main))
  · exact jo_f (show ¬ nI 2 = 1 by decide) (jo_fR (mkg h1).2 (by decide) rfl (jo_len (mkg f1).2 rfl main))
end WD
