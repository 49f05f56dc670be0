/-! PLAIN LAW, 55: a complex with another edge, face, chain -/
theorem jExt.md {md : Nat → Bool} {c s : Nat} {M0 M : Mem} (h : jExt md c s M0 M) (hM : ∀ a, md a = true → a < M0.1) : ∀ a, md a = true → a < M.1 := fun a ha => Nat.lt_of_lt_of_le (hM a ha) h.1
section WI
variable {β : Type} {Q : β → Mem → Prop} {md : Nat → Bool} {N c s : Nat} {M0 M : Mem} {q : Nat} {C C' : CX}
theorem jX_cpR {p : jm_P β} {kd n0 n1 n a b : Nat} {f g : Nat → Option Nat} {cs : List Nat} (ha : jMk md M.2.2 a = some (aR kd n0 f)) (hb : jMk md M.2.2 b = some (aR kd n1 g)) (h0 : n ≤ n0) (h1 : n ≤ n1) (hn : n < 2 ^ 31) (hf : ∀ i, i < n → jm_fit cs none (f i) M = true) (hE : jExt md c s M0 M) (kk : ∀ M1, jMk md M1.2.2 = va_up (jMk md M.2.2) b (some (aR kd n1 (va_cpy f g 0 0 n))) → jExt md c s M0 M1 → jo p M1 Q) : jo (jm_wr (jm_cpR kd cs (some a) 0 (some b) 0 (nI n)) p) M Q := by
  refine jX_wr ?_ hb hE kk
  unfold jm_cpR jm_ar
  simp only [(mkg ha).2, (mkg hb).2, if_true]
  rw [if_pos, nI_tc hn]
  · unfold jm_sto; rfl
  · rw [nI_tc hn]
    refine ⟨⟨⟨by decide, by decide⟩, nI_nn hn, ?_⟩, ?_, ?_⟩
    · show (nI 0).toNatClampNeg + n ≤ n0
      rw [nI_tc (by decide)]; omega
    · show (nI 0).toNatClampNeg + n ≤ n1
      rw [nI_tc (by decide)]; omega
    · rw [List.all_eq_true]
      intro i hi
      rw [show (0 : Int32).toNatClampNeg = 0 from nI_tc (n := 0) (by decide), Nat.zero_add]
      exact hf i (List.mem_range.mp hi)
theorem fit56 {H : Mem} {b p u w : Nat} (h : H.2.2 b = some (jEdO p u w)) : jm_fit [5, 6] none (some b) H = true := by
  unfold jm_fit
  simp only [h]
  exact decide_eq_true (mem_56 p u)
theorem fit78 {H : Mem} {b w l : Nat} {L : Nat → Int} (h : jFa b w l L H.2.2) : jm_fit [7, 8] none (some b) H = true := by
  obtain ⟨_, _, h, -⟩ := h
  unfold jm_fit
  simp only [h]
  exact decide_eq_true (mem_78 _)
/-- the object of a complex is laid -/
theorem jX_cx9 (hM : ∀ a, md a = true → a < M0.1) {k : Nat → jm_P β} (hE : jExt md c s M0 M) (kk : ∀ q M1, jSub (jMk md M.2.2) (jMk md M1.2.2) → jMk md M1.2.2 q = some (.inr (9, [.int 0, .null, .null, .null])) → (∀ M2 : Mem, jMk md M2.2.2 = va_up (jMk md M1.2.2) q (jMk md M2.2.2 q) → jSub (jMk md M.2.2) (jMk md M2.2.2)) → jExt md (c + 1) (s + 4) M0 M1 → jo (k q) M1 Q) : jo (jm_al (.inr (9, [.int 0, .null, .null, .null])) k) M Q := by
  refine jX_al (hE.md hM) hE fun q M1 hq _ e1 E1 => kk q M1 ?_ ?_ (fun M2 e2 => ?_) E1
  · rw [e1]; exact jSub.new hq
  · rw [e1, va_up_self]
  · rw [e2, e1, va_up2]; exact jSub.new hq
theorem jx_withEdge (hM : ∀ a, md a = true → a < M0.1) (hE : jExt md c s M0 M) {a e b p u w : Nat} (h : jCx a C (jMk md M.2.2)) (hW : jWf C) (he : e ≤ cE C) (he6 : e < 6) (hb : jMk md M.2.2 b = some (jEdO p u w)) (x1 : cP C' = cP C) (x2 : cE C' = if e < cE C then cE C else e + 1) (x3 : cF C' = cF C ∧ cFw C' = cFw C ∧ cFl C' = cFl C ∧ cLt C' = cLt C) (x4 : cEd C' e 0 = p ∧ cEd C' e 1 = u ∧ cEd C' e 2 = w ∧ ∀ i k, i < cE C' → i ≠ e → cEd C' i k = cEd C i k) (x5 : ∀ c i, c < 3 → i < 6 → (if i < cE C' then cCh C' c i else 0) = if i < cE C then cCh C c i else 0) : jo (jf_X9_withEdge N a (nI e) (some b)) M (jNew md (c + 2) (s + 10) M0 M (fun q H => jCx q C' H)) := by
  obtain ⟨eA, fA, cA, h1, ⟨er, h2, h3⟩, h4, h5⟩ := h
  have w6 := hW.2.1
  have hn : cE C' ≤ 6 := by rw [x2]; split <;> omega
  have hn2 : cE C ≤ cE C' ∧ e < cE C' := by rw [x2]; split <;> omega
  unfold jf_X9_withEdge
  refine jo_fR (mkg h1).2 (by decide) rfl (jo_len (mkg h2).2 rfl (jo_lt ?_))
  rw [show (if nI e + 1 < nI (cE C) then nI (cE C) else nI e + 1) = nI (cE C') by
    rw [nI_1, x2]
    by_cases g : e + 1 < cE C
    · rw [if_pos ((nI_ltI (by omega) (by omega)).mpr g), if_pos (by omega)]
    · rw [if_neg (fun y => g ((nI_ltI (by omega) (by omega)).mp y))]
      by_cases g2 : e < cE C
      · rw [if_pos g2, show e + 1 = cE C by omega]
      · rw [if_neg g2]]
  refine jo_ck (ckL (by omega)) ?_
  rw [nI_tc (by omega)]
  refine jX_al (hE.md hM) hE fun q7 M1 hq m1 e1 E1 => ?_
  have s1 : jSub (jMk md M.2.2) (jMk md M1.2.2) := by rw [e1]; exact jSub.new hq
  have n1 : q7 ≠ eA := fun y => by rw [y, h2] at hq; cases hq
  refine jo_fR (mkg (s1 _ _ h1)).2 (by decide) rfl (jo_fR (mkg (s1 _ _ h1)).2 (by decide) rfl (jo_len (mkg (s1 _ _ h2)).2 rfl ?_))
  refine jX_cpR (n0 := cE C) (n1 := cE C') (f := er) (g := fun _ => none) (s1 _ _ h2) (by rw [e1, va_up_self]) (Nat.le_refl _) hn2.1 (by omega) (fun i hi => ?_) E1 (fun M2 e2 E2 => ?_)
  · obtain ⟨z, z1, z2⟩ := h3 i hi
    rw [z1]
    exact fit56 (mkg (s1 _ _ z2)).2
  have s2 : jSub (jMk md M.2.2) (jMk md M2.2.2) := by rw [e2, e1, va_up2]; exact jSub.new hq
  refine jX_stR (n := cE C') (j := e) (f := va_cpy er (fun _ => none) 0 0 (cE C)) (by rw [e2, va_up_self]) rfl hn2.2 (by omega) (fit56 (mkg (s2 _ _ hb)).2) E2 (fun M3 e3 E3 => ?_)
  have s3 : jSub (jMk md M.2.2) (jMk md M3.2.2) := by rw [e3, e2, e1, va_up2, va_up2]; exact jSub.new hq
  refine jX_cx9 hM E3 fun q M4 s4 o4 u4 E4 => ?_
  refine jo_fI (mkg (s4 _ _ (s3 _ _ h1))).2 (by decide) rfl (jo_fR (mkg (s4 _ _ (s3 _ _ h1))).2 (by decide) rfl (jo_fR (mkg (s4 _ _ (s3 _ _ h1))).2 (by decide) rfl ?_))
  refine jX_in9 o4 E4 (fun M5 e5 E5 => jo_ret ?_)
  have o5 : jMk md M5.2.2 q = some (.inr (9, [.int (nI (cP C)), .ref q7, .ref fA, .ref cA])) := by rw [e5, va_up_self]; rfl
  have s5 : jSub (jMk md M3.2.2) (jMk md M5.2.2) := u4 M5 (by rw [o5]; exact e5)
  have s6 := s3.tr s5
  refine ⟨q, rfl, s6, E5.mono (by omega) (by show s + cE C' + 4 ≤ s + 10; omega), q7, fA, cA, by rw [x1]; exact o5, ⟨va_up (va_cpy er (fun _ => none) 0 0 (cE C)) e (some b), s5 _ _ (by rw [e3, va_up_self]), fun i hi => ?_⟩, ?_, ?_⟩
  · by_cases ei : i = e
    · subst ei
      refine ⟨b, va_up_self _ _ _, ?_⟩
      rw [x4.1, x4.2.1, x4.2.2.1]
      exact s6 _ _ hb
    · have hi2 : i < cE C := by rw [x2] at hi; split at hi <;> omega
      obtain ⟨z, z1, z2⟩ := h3 i hi2
      refine ⟨z, ?_, ?_⟩
      · rw [va_up_ne _ _ ei]
        unfold va_cpy
        rw [if_pos (by omega), Nat.sub_zero, Nat.zero_add, z1]
      · rw [x4.2.2.2 i 0 hi ei, x4.2.2.2 i 1 hi ei, x4.2.2.2 i 2 hi ei]
        exact s6 _ _ z2
  · rw [x3.1, x3.2.1, x3.2.2.1, x3.2.2.2]
    exact h4.kp s6.kp
  · obtain ⟨cr, k1, k2⟩ := h5
    refine ⟨cr, s6 _ _ k1, fun c hc => ?_⟩
    obtain ⟨z, g, z1, z2, z3⟩ := k2 c hc
    refine ⟨z, g, z1, s6 _ _ z2, fun i hi => ?_⟩
    rw [z3 i hi, x5 c i hc hi]
end WI
