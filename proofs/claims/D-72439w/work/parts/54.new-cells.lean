/-! PLAIN LAW, 54: new edges, faces, complexes of the component -/
theorem nI_tc {n : Nat} (h : n < 2 ^ 31) : (nI n).toNatClampNeg = n := by
  unfold Int32.toNatClampNeg
  rw [nI_toInt h]; rfl
theorem nI_nn {n : Nat} (h : n < 2 ^ 31) : ¬ nI n < 0 := by
  intro x
  have := (nI_ltI (a := n) (b := 0) h (by decide)).mp x
  omega
theorem ckL {n : Nat} (h : n ≤ 1000) : ¬ nI n < 0 ∧ (nI n).toNatClampNeg ≤ 1000 := ⟨nI_nn (by omega), by rw [nI_tc (by omega)]; exact h⟩
theorem jSub.rf {H : HM} : jSub H H := fun _ _ h => h
theorem jSub.tr {A B C : HM} (h : jSub A B) (k : jSub B C) : jSub A C := fun a e h1 => k a e (h a e h1)
theorem jSub.new {H : HM} {a : Nat} {v : Option CE} (h : H a = none) : jSub H (va_up H a v) := by
  intro b e hb
  rw [va_up_ne _ _ (fun c => by subst c; rw [h] at hb; cases hb)]
  exact hb
section NW
variable {β : Type} {Q : β → Mem → Prop} {md : Nat → Bool} {N c s : Nat} {M0 M : Mem} {q : Nat}
theorem jX_in5 {p u w : Int32} {cl : Nat} {a0 a1 a2 : Value} {k : Unit → jm_P β} (h : jMk md M.2.2 q = some (.inr (cl, [a0, a1, a2]))) (hc : cl ∈ [5, 6]) (hE : jExt md c s M0 M) (kk : ∀ M1, jMk md M1.2.2 = va_up (jMk md M.2.2) q (some (.inr (cl, [.int p, .int u, .int w]))) → jExt md c s M0 M1 → jo (k ()) M1 Q) : jo (jm_bd (jf_X5_init N q p u w) k) M Q := by
  refine jo_bd ?_
  unfold jf_X5_init jf_X4_init
  refine jo_bd (jo_ret ?_)
  refine jX_put h hc (by simp) hE (fun M1 e1 E1 => ?_)
  refine jX_put (vs := [.int p, a1, a2]) (by rw [e1, va_up_self]; rfl) hc (by simp) E1 (fun M2 e2 E2 => ?_)
  refine jX_put (vs := [.int p, .int u, a2]) (by rw [e2, va_up_self]; rfl) hc (by simp) E2 (fun M3 e3 E3 => jo_ret (kk _ ?_ E3))
  rw [e3, e2, e1, va_up2, va_up2]; rfl
theorem jX_in7 {v : Option Nat} {w : Int32} {cl : Nat} {a0 a1 : Value} {k : Unit → jm_P β} (h : jMk md M.2.2 q = some (.inr (cl, [a0, a1]))) (hc : cl ∈ [7, 8]) (hE : jExt md c s M0 M) (kk : ∀ M1, jMk md M1.2.2 = va_up (jMk md M.2.2) q (some (.inr (cl, [va_rf v, .int w]))) → jExt md c s M0 M1 → jo (k ()) M1 Q) : jo (jm_bd (jf_X7_init N q v w) k) M Q := by
  refine jo_bd ?_
  unfold jf_X7_init jf_X4_init
  refine jo_bd (jo_ret ?_)
  refine jX_put h hc (by simp) hE (fun M1 e1 E1 => ?_)
  refine jX_put (vs := [va_rf v, a1]) (by rw [e1, va_up_self]; rfl) hc (by simp) E1 (fun M2 e2 E2 => jo_ret (kk _ ?_ E2))
  rw [e2, e1, va_up2]; rfl
theorem jX_in9 {v1 : Int32} {v2 v3 v4 : Option Nat} {a0 a1 a2 a3 : Value} {k : Unit → jm_P β} (h : jMk md M.2.2 q = some (.inr (9, [a0, a1, a2, a3]))) (hE : jExt md c s M0 M) (kk : ∀ M1, jMk md M1.2.2 = va_up (jMk md M.2.2) q (some (.inr (9, [.int v1, va_rf v2, va_rf v3, va_rf v4]))) → jExt md c s M0 M1 → jo (k ()) M1 Q) : jo (jm_bd (jf_X9_init N q v1 v2 v3 v4) k) M Q := by
  refine jo_bd ?_
  unfold jf_X9_init
  refine jX_put h (by decide) (by simp) hE (fun M1 e1 E1 => ?_)
  refine jX_put (vs := [.int v1, a1, a2, a3]) (by rw [e1, va_up_self]; rfl) (by decide) (by simp) E1 (fun M2 e2 E2 => ?_)
  refine jX_put (vs := [.int v1, va_rf v2, a2, a3]) (by rw [e2, va_up_self]; rfl) (by decide) (by simp) E2 (fun M3 e3 E3 => ?_)
  refine jX_put (vs := [.int v1, va_rf v2, va_rf v3, a3]) (by rw [e3, va_up_self]; rfl) (by decide) (by simp) E3 (fun M4 e4 E4 => jo_ret (kk _ ?_ E4))
  rw [e4, e3, e2, e1, va_up2, va_up2, va_up2]; rfl
/-- a new edge -/
def jNew (md : Nat → Bool) (c s : Nat) (M0 M : Mem) (P : Nat → HM → Prop) (r : Option Nat) (M' : Mem) : Prop := ∃ q, r = some q ∧ jSub (jMk md M.2.2) (jMk md M'.2.2) ∧ jExt md c s M0 M' ∧ P q (jMk md M'.2.2)
theorem jx_edgeBy (hM : ∀ a, md a = true → a < M.1) (hE : jExt md c s M0 M) {p u w : Nat} (hp : p < 100) (hu : u < 100) : jo (jf_X0_edgeBy N (nI p) (nI u) (nI w)) M (jNew md (c + 1) (s + 3) M0 M (fun q H => H q = some (jEdO p u w))) := by
  unfold jf_X0_edgeBy
  by_cases e : p = u
  · subst e
    refine jo_t rfl (jX_al hM hE fun q M1 hq _ e1 E1 => ?_)
    refine jo_bd ?_
    unfold jf_X6_init
    refine jX_in5 (by rw [e1, va_up_self]) (by decide) E1 (fun M2 e2 E2 => jo_ret (jo_ret ⟨q, rfl, ?_, E2, ?_⟩))
    · rw [e2, e1, va_up2]; exact jSub.new hq
    · show jMk md M2.2.2 q = _; rw [e2, va_up_self]; unfold jEdO; rw [if_pos rfl]
  · refine jo_f (by intro x; exact e ((nI_eq (by omega) (by omega)).mp x)) (jX_al hM hE fun q M1 hq _ e1 E1 => ?_)
    refine jX_in5 (by rw [e1, va_up_self]) (by decide) E1 (fun M2 e2 E2 => jo_ret ⟨q, rfl, ?_, E2, ?_⟩)
    · rw [e2, e1, va_up2]; exact jSub.new hq
    · show jMk md M2.2.2 q = _; rw [e2, va_up_self]; unfold jEdO; rw [if_neg e]
theorem jx_D5with (hM : ∀ a, md a = true → a < M.1) (hE : jExt md c s M0 M) {a p u w w' : Nat} (h : jMk md M.2.2 a = some (jEdO p u w)) : jo (jf_D_X5_with N (some a) (nI w')) M (jNew md (c + 1) (s + 3) M0 M (fun q H => H q = some (jEdO p u w'))) := by
  unfold jf_D_X5_with
  by_cases e : p = u
  · subst e
    have h : jMk md M.2.2 a = some (.inr (6, [.int (nI p), .int (nI p), .int (nI w)])) := by rw [h]; unfold jEdO; rw [if_pos rfl]
    refine jo_rd (x := (a, 6)) (by unfold jm_kl; simp only [(mkg h).2]) (jo_f (show ¬ (6 : Nat) = 5 by decide) (jo_t rfl ?_))
    unfold jf_X6_with
    refine jX_al hM hE fun q M1 hq _ e1 E1 => ?_
    have hs1 : jSub (jMk md M.2.2) (jMk md M1.2.2) := by rw [e1]; exact jSub.new hq
    refine jo_fI (mkg (hs1 _ _ h)).2 (by decide) rfl (jo_bd ?_)
    unfold jf_X6_init
    refine jX_in5 (by rw [e1, va_up_self]) (by decide) E1 (fun M2 e2 E2 => jo_ret (jo_ret ⟨q, rfl, ?_, E2, ?_⟩))
    · rw [e2, e1, va_up2]; exact jSub.new hq
    · show jMk md M2.2.2 q = _; rw [e2, va_up_self]; unfold jEdO; rw [if_pos rfl]
  · have h : jMk md M.2.2 a = some (.inr (5, [.int (nI p), .int (nI u), .int (nI w)])) := by rw [h]; unfold jEdO; rw [if_neg e]
    refine jo_rd (x := (a, 5)) (by unfold jm_kl; simp only [(mkg h).2]) (jo_t rfl ?_)
    unfold jf_X5_with
    refine jX_al hM hE fun q M1 hq _ e1 E1 => ?_
    have hs1 : jSub (jMk md M.2.2) (jMk md M1.2.2) := by rw [e1]; exact jSub.new hq
    refine jo_fI (mkg (hs1 _ _ h)).2 (by decide) rfl (jo_fI (mkg (hs1 _ _ h)).2 (by decide) rfl ?_)
    refine jX_in5 (by rw [e1, va_up_self]) (by decide) E1 (fun M2 e2 E2 => jo_ret ⟨q, rfl, ?_, E2, ?_⟩)
    · rw [e2, e1, va_up2]; exact jSub.new hq
    · show jMk md M2.2.2 q = _; rw [e2, va_up_self]; unfold jEdO; rw [if_neg e]
theorem jx_D7with (hM : ∀ a, md a = true → a < M.1) (hE : jExt md c s M0 M) {a w w' l : Nat} {L : Nat → Int} (h : jFa a w l L (jMk md M.2.2)) : jo (jf_D_X7_with N (some a) (nI w')) M (jNew md (c + 1) (s + 2) M0 M (fun q H => jFa q w' l L H)) := by
  obtain ⟨wa, g, h1, h2, h3⟩ := h
  unfold jf_D_X7_with
  cases hs : wSl l L with
  | true =>
    have h : jMk md M.2.2 a = some (.inr (8, [.ref wa, .int (nI w)])) := by rw [h1, hs]; rfl
    refine jo_rd (x := (a, 8)) (by unfold jm_kl; simp only [(mkg h).2]) (jo_f (show ¬ (8 : Nat) = 7 by decide) (jo_t rfl ?_))
    unfold jf_X8_with
    refine jX_al hM hE fun q M1 hq _ e1 E1 => ?_
    have hs1 : jSub (jMk md M.2.2) (jMk md M1.2.2) := by rw [e1]; exact jSub.new hq
    refine jo_fR (mkg (hs1 _ _ h)).2 (by decide) rfl (jo_bd ?_)
    unfold jf_X8_init
    refine jX_in7 (by rw [e1, va_up_self]) (by decide) E1 (fun M2 e2 E2 => jo_ret (jo_ret ?_))
    have hs2 : jSub (jMk md M.2.2) (jMk md M2.2.2) := by rw [e2, e1, va_up2]; exact jSub.new hq
    exact ⟨q, rfl, hs2, E2, wa, g, by rw [e2, va_up_self, hs]; rfl, hs2 _ _ h2, h3⟩
  | false =>
    have h : jMk md M.2.2 a = some (.inr (7, [.ref wa, .int (nI w)])) := by rw [h1, hs]; rfl
    refine jo_rd (x := (a, 7)) (by unfold jm_kl; simp only [(mkg h).2]) (jo_t rfl ?_)
    unfold jf_X7_with
    refine jX_al hM hE fun q M1 hq _ e1 E1 => ?_
    have hs1 : jSub (jMk md M.2.2) (jMk md M1.2.2) := by rw [e1]; exact jSub.new hq
    refine jo_fR (mkg (hs1 _ _ h)).2 (by decide) rfl ?_
    refine jX_in7 (by rw [e1, va_up_self]) (by decide) E1 (fun M2 e2 E2 => jo_ret ?_)
    have hs2 : jSub (jMk md M.2.2) (jMk md M2.2.2) := by rw [e2, e1, va_up2]; exact jSub.new hq
    exact ⟨q, rfl, hs2, E2, wa, g, by rw [e2, va_up_self, hs]; rfl, hs2 _ _ h2, h3⟩
end NW
