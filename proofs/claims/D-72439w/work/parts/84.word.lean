/-! PLAIN LAW, 84: the component's reader: a word -/
/-- a word: how many letters, whether it is closed -/
def pW (n : Nat) (t : Nat → Nat) (C : CX) (i : Nat) : PE ⊕ (Nat × Bool) := match pWord n t C i 6 0 with
  | .inl e => .inl e
  | .inr k => if k = 0 then .inl (1, i) else if tk n t (i + k) = 3 then (if wCl C (fun j => lb C (t (i + j))) k = true then .inr (k, true) else .inl (2, i + k)) else if tk n t (i + k) = 0 then .inr (k, wCl C (fun j => lb C (t (i + j))) k) else .inl (1, i + k)
/-- a row of edges that may be longer than the edges are many -/
def jEp (eA nE : Nat) (C : CX) (H : HM) : Prop := ∃ er, H eA = some (aR 4 nE er) ∧ cE C ≤ nE ∧ nE ≤ 6 ∧ ∀ e, e < cE C → ∃ a, er e = some a ∧ H a = some (jEdO (cEd C e 0) (cEd C e 1) (cEd C e 2))
theorem jEd_ne {p u w tp n i : Nat} : jEdO p u w ≠ jRq tp n i := by
  intro h
  unfold jEdO jRq at h
  injection h with h
  have := congrArg Prod.fst h
  dsimp only at this
  split at this <;> cases this
theorem jEp.sq {eA nE q tp n i : Nat} {C : CX} {H H' : HM} (h : jEp eA nE C H) (hq : H q = some (jRq tp n i)) (k : jSq q H H') : jEp eA nE C H' := by
  obtain ⟨er, h1, h2, h3, h4⟩ := h
  refine ⟨er, k _ _ (fun e => by rw [e, hq] at h1; cases h1) h1, h2, h3, fun e he => ?_⟩
  obtain ⟨a, g1, g2⟩ := h4 e he
  exact ⟨a, g1, k _ _ (fun e => by rw [e, hq] at g2; exact jEd_ne (Option.some.inj g2).symm) g2⟩
theorem jEp.sub {eA nE : Nat} {C : CX} {H H' : HM} (h : jEp eA nE C H) (k : jSub H H') : jEp eA nE C H' := by
  obtain ⟨er, h1, h2, h3, h4⟩ := h
  exact ⟨er, k _ _ h1, h2, h3, fun e he => (h4 e he).elim fun a g => ⟨a, g.1, k _ _ g.2⟩⟩
/-- the letter that a byte is, as the component holds it -/
theorem lb_dec {C : CX} {b : Nat} (h : tkc b = 1) (h6 : cE C ≤ 6) : ∃ z : Int, (if 97 ≤ b ∧ b ≤ 122 then ((b : Int) - 97) else 64 - (b : Int)) = z ∧ -26 ≤ z ∧ z ≤ 25 ∧
    (lb C b = 0 ↔ ¬ ((if 0 ≤ z then z else -1 - z) < (cE C : Int))) ∧ (lb C b ≠ 0 → lDec (lb C b) = z ∧ (lb C b < 0 ↔ z < 0) ∧ (lEd (lb C b) : Int) = (if 0 ≤ z then z else -1 - z) ∧ lEd (lb C b) < cE C) := by
  refine ⟨_, rfl, ?_⟩
  unfold tkc at h
  split at h
  case isFalse => split at h; cases h; split at h <;> cases h
  rename_i hb
  by_cases a : 97 ≤ b ∧ b ≤ 122
  · have e1 : lb C b = if b - 97 < cE C then ((b - 97 : Nat) : Int) + 1 else 0 := by unfold lb; rw [if_pos a]
    rw [e1, if_pos a]
    by_cases d : b - 97 < cE C
    · rw [if_pos d]
      refine ⟨by omega, by omega, ⟨fun y => by omega, fun y => absurd y (by rw [if_pos (by omega)]; omega)⟩, fun _ => ?_⟩
      unfold lDec lEd
      rw [if_neg (by omega), if_neg (by omega), if_pos (by omega)]
      omega
    · rw [if_neg d]
      exact ⟨by omega, by omega, ⟨fun _ => by rw [if_pos (by omega)]; omega, fun _ => rfl⟩, fun y => absurd rfl y⟩
  · have e1 : lb C b = if b - 65 < cE C then -(((b - 65 : Nat) : Int) + 1) else 0 := by unfold lb; rw [if_neg a, if_pos (by omega)]
    rw [e1, if_neg a]
    by_cases d : b - 65 < cE C
    · rw [if_pos d]
      refine ⟨by omega, by omega, ⟨fun y => by omega, fun y => absurd y (by rw [if_neg (by omega)]; omega)⟩, fun _ => ?_⟩
      unfold lDec lEd
      rw [if_pos (by omega), if_pos (by omega), if_neg (by omega)]
      omega
    · rw [if_neg d]
      exact ⟨by omega, by omega, ⟨fun _ => by rw [if_neg (by omega)]; omega, fun _ => rfl⟩, fun y => absurd rfl y⟩
section WD
variable {β : Type} {Q : β → Mem → Prop} {md : Nat → Bool} {N q tp n i c s : Nat} {t : Nat → Nat} {M M0 : Mem} {C : CX}
theorem jX_cpI {p : jm_P β} {kd n0 n1 n a b : Nat} {f g : Nat → Int32} (ha : jMk md M.2.2 a = some (aI kd n0 f)) (hb : jMk md M.2.2 b = some (aI kd n1 g)) (h0 : n ≤ n0) (h1 : n ≤ n1) (hn : n < 2 ^ 31) (hE : jExt md c s M0 M) (kk : ∀ M1, jMk md M1.2.2 = va_up (jMk md M.2.2) b (some (aI kd n1 (va_cpy f g 0 0 n))) → jExt md c s M0 M1 → jo p M1 Q) : jo (jm_wr (jm_cpI kd (some a) 0 (some b) 0 (nI n)) p) M Q := by
  refine jX_wr ?_ hb hE kk
  unfold jm_cpI jm_ar
  simp only [(mkg ha).2, (mkg hb).2, if_true]
  rw [if_pos, nI_tc hn]
  · unfold jm_sto; rfl
  · rw [nI_tc hn]
    refine ⟨⟨⟨by decide, by decide⟩, nI_nn hn, ?_⟩, ?_⟩
    · show (nI 0).toNatClampNeg + n ≤ n0
      rw [nI_tc (by decide)]; omega
    · show (nI 0).toNatClampNeg + n ≤ n1
      rw [nI_tc (by decide)]; omega
/-- first, here -/
def wFst (C : CX) (L : Nat → Int) (k : Nat) : Int32 := if k = 0 then iI (-1000000) else nI (lBp C (L 0))
def wHer (C : CX) (L : Nat → Int) (k : Nat) : Int32 := if k = 0 then iI (-1000000) else nI (lFp C (L (k - 1)))
/-- the state of the reading of a word -/
def jWi (md : Nat → Bool) (c s : Nat) (M0 : Mem) (q tp n i w : Nat) (L : Nat → Int) (H0 : HM) (k : Nat) (M : Mem) : Prop := jMk md M.2.2 q = some (jRq tp n (i + k)) ∧ jSq q H0 (jMk md M.2.2) ∧ (∃ g, jMk md M.2.2 w = some (aI 0 4 g) ∧ ∀ j, j < k → g j = iI (lDec (L j))) ∧ jExt md c s M0 M
/-- what a throw leaves since H0 -/
def jTh0 (md : Nat → Bool) (c s : Nat) (M0 : Mem) (q : Nat) (H0 : HM) (e : PE) (qf : Nat) (M' : Mem) : Prop := jFt qf e.1 e.2 (jMk md M'.2.2) ∧ jSq q H0 (jMk md M'.2.2) ∧ jExt md c s M0 M'
theorem jTh.to {H0 : HM} {e : PE} {qf : Nat} {M' : Mem} (h : jTh md c s M0 q M e qf M') (k : jSq q H0 (jMk md M.2.2)) : jTh0 md c s M0 q H0 e qf M' := ⟨h.1, k.tr h.2.1, h.2.2⟩
/-- the point of an edge -/
theorem jx_edp {eA nE e k : Nat} {H0 : HM} (h : jEp eA nE C H0) (hs : jSub H0 M.2.2) (he : e < cE C) (hk : k < 2) {p : Int32 → jm_P β} (kk : jo (p (nI (cEd C e k))) M Q) : jo (jm_rd (jm_ldR 4 (some eA) (nI e)) fun x => jm_rd (jm_fI [5, 6] k x) p) M Q := by
  obtain ⟨er, h1, h2, h3, h4⟩ := h
  obtain ⟨a, g1, g2⟩ := h4 e he
  refine jo_ldR (hs _ _ h1) rfl (by omega) (by omega) ?_
  rw [g1]
  refine jo_fI (hs _ _ g2) (mem_56 _ _) ?_ kk
  rcases (show k = 0 ∨ k = 1 by omega) with rfl | rfl <;> rfl
theorem jx_wordStep (hM : ∀ a, md a = true → a < M0.1) {H0 : HM} {eA nE w k : Nat} {L : Nat → Int} (hL : L = fun j => lb C (t (i + j))) (hq0 : H0 q = some (jRq tp n i)) (ht0 : jRt tp n t H0) (hw0 : H0 w = none) (he : jEp eA nE C H0) (hW : jWf C) (hk : k ≤ 4) (hi : i ≤ 90) (hI : jWi md c s M0 q tp n i w L H0 k M) (hl : wLs C L k) (ctk : tk n t (i + k) = 1) :
    jo (jf_X2_word_L15 N q (some eA) (nI (cE C)) (some w) (nI k) (wFst C L k) (wHer C L k)) M (fun x M1 => if wNx C L k (L k) = true then x = .inl (nI (k + 1), wFst C L (k + 1), wHer C L (k + 1)) ∧ jWi md c s M0 q tp n i w L H0 (k + 1) M1 else ∃ qf, x = .inr (.inr qf) ∧ jTh0 md (c + 1) (s + 8) M0 q H0 (2, i + k) qf M1) := by
  obtain ⟨h1, h2, ⟨g, h3, h4⟩, h5⟩ := hI
  have hwq : w ≠ q := fun e => by rw [e, hq0] at hw0; cases hw0
  have h6 := hW.2.1
  have ht : jRt tp n t (jMk md M.2.2) := ht0.sq hq0 h2
  have ht' := ht.sub jMk.sub
  have cn : i + k < n := by unfold tk at ctk; split at ctk; assumption; cases ctk
  have h256 : t (i + k) < 256 := by obtain ⟨tf, _, _, z⟩ := ht; exact (z _ cn).2
  have hLk : L k = lb C (t (i + k)) := by rw [hL]
  have hep : jEp eA nE C (jMk md M.2.2) := he.sq hq0 h2
  obtain ⟨z, z1, z2, z3, z4, z5⟩ := lb_dec (C := C) (show tkc (t (i + k)) = 1 by unfold tk at ctk; rw [if_pos cn] at ctk; exact ctk) h6
  rw [← hLk] at z4 z5
  have hed : (if 97 ≤ t (i + k) ∧ t (i + k) ≤ 122 then iI ((t (i + k) : Int) - 97) else iI (64 - (t (i + k) : Int))) = iI z := by rw [← z1]; split <;> rfl
  unfold jf_X2_word_L15
  refine jo_cl (mkg h1).2 (jo_eq (jx_token (mkg h1).2 ht' (by omega)) (jo_t (by rw [ctk]; rfl) ?_))
  refine jo_cl (mkg h1).2 (jo_eq (jx_look (mkg h1).2 ht' (by omega)) ?_)
  rw [if_pos cn]
  refine jo_eq (jx_edgeOf h256) ?_
  rw [hed]
  -- the edge's number
  have main : ∀ e0 : Nat, (e0 : Int) = (if 0 ≤ z then z else -1 - z) → jo (jf_X2_word_j46 N q (some eA) (nI (cE C)) (some w) (nI k) (wFst C L k) (wHer C L k) (iI z) (nI e0)) M (fun x M1 => if wNx C L k (L k) = true then x = .inl (nI (k + 1), wFst C L (k + 1), wHer C L (k + 1)) ∧ jWi md c s M0 q tp n i w L H0 (k + 1) M1 else ∃ qf, x = .inr (.inr qf) ∧ jTh0 md (c + 1) (s + 8) M0 q H0 (2, i + k) qf M1) := by
    intro e0 he0
    have he26 : e0 ≤ 26 := by split at he0 <;> omega
    have bad : (¬ wNx C L k (L k) = true) → ∀ qf M1, jTh md (c + 1) (s + 8) M0 q M (2, i + k) qf M1 → (if wNx C L k (L k) = true then (Sum.inr (Sum.inr qf) : (Int32 × Int32 × Int32) ⊕ ((Int32 × Int32 × Int32) ⊕ Nat)) = .inl (nI (k + 1), wFst C L (k + 1), wHer C L (k + 1)) ∧ jWi md c s M0 q tp n i w L H0 (k + 1) M1 else ∃ qf', (Sum.inr (Sum.inr qf) : (Int32 × Int32 × Int32) ⊕ ((Int32 × Int32 × Int32) ⊕ Nat)) = .inr (.inr qf') ∧ jTh0 md (c + 1) (s + 8) M0 q H0 (2, i + k) qf' M1) := by
      intro nx qf M1 hth
      rw [if_neg nx]
      exact ⟨qf, rfl, hth.to h2⟩
    unfold jf_X2_word_j46
    have j65 : (¬ wNx C L k (L k) = true) → jo (jf_X2_word_j65 N q (some eA) (nI (cE C)) (some w) (nI k) (wFst C L k) (wHer C L k) (iI z) (nI e0) (some q)) M (fun x M1 => if wNx C L k (L k) = true then x = .inl (nI (k + 1), wFst C L (k + 1), wHer C L (k + 1)) ∧ jWi md c s M0 q tp n i w L H0 (k + 1) M1 else ∃ qf, x = .inr (.inr qf) ∧ jTh0 md (c + 1) (s + 8) M0 q H0 (2, i + k) qf M1) := by
      intro nx
      unfold jf_X2_word_j65 jf_X2_word_j66
      exact jo_cl (mkg h1).2 (jX_must hM h5 h1 2 (fun _ qf M1 hth => jo_ret (bad nx qf M1 hth)) (fun y => absurd rfl y))
    by_cases k4 : k = 4
    · subst k4
      exact jo_t (by decide +kernel) (j65 (by unfold wNx; simp))
    refine jo_f (show ¬ nI 4 ≤ nI k by rw [nI_leI (by omega) (by omega)]; omega) ?_
    by_cases ce : e0 < cE C
    case neg =>
      refine jo_t (by rw [nI_leI (by omega) (by omega)]; omega) (j65 ?_)
      have : L k = 0 := z4.mpr (by rw [← he0]; omega)
      unfold wNx
      rw [this]; simp
    refine jo_f (by rw [nI_leI (by omega) (by omega)]; omega) ?_
    have hl0 : L k ≠ 0 := fun y => z4.mp y (by rw [← he0]; omega)
    obtain ⟨y1, y2, y3, y4⟩ := z5 hl0
    have y5 : lEd (L k) = e0 := by omega
    unfold jf_X2_word_j66
    refine jo_cl (mkg h1).2 (jX_must hM h5 h1 2 (fun y => absurd y (by decide)) (fun _ => ?_))
    -- where it begins
    have rest : jo (jf_X2_word_j92 N q (some eA) (nI (cE C)) (some w) (nI k) (wFst C L k) (wHer C L k) (iI z) (nI e0) (nI (lBp C (L k)))) M (fun x M1 => if wNx C L k (L k) = true then x = .inl (nI (k + 1), wFst C L (k + 1), wHer C L (k + 1)) ∧ jWi md c s M0 q tp n i w L H0 (k + 1) M1 else ∃ qf, x = .inr (.inr qf) ∧ jTh0 md (c + 1) (s + 8) M0 q H0 (2, i + k) qf M1) := by
      have rg := lb_rg hW (t (i + k))
      rw [← hLk] at rg
      have lt6 := lBp_lt hW hl0 rg.1 rg.2
      -- the good way
      have good : wNx C L k (L k) = true → jo (jf_X2_word_j112 N q (some eA) (nI (cE C)) (some w) (nI k) (wFst C L k) (iI z) (nI e0) (nI (lBp C (L k))) (some q) 1) M (fun x M1 => if wNx C L k (L k) = true then x = .inl (nI (k + 1), wFst C L (k + 1), wHer C L (k + 1)) ∧ jWi md c s M0 q tp n i w L H0 (k + 1) M1 else ∃ qf, x = .inr (.inr qf) ∧ jTh0 md (c + 1) (s + 8) M0 q H0 (2, i + k) qf M1) := by
        intro nx
        unfold jf_X2_word_j112
        refine jo_cl (mkg h1).2 (jX_must hM h5 h1 2 (fun y => absurd y (by decide)) (fun _ => ?_))
        have tail : jo (jf_X2_word_j128 N q (some eA) (nI (cE C)) (some w) (nI k) (iI z) (nI e0) (wFst C L (k + 1))) M (fun x M1 => if wNx C L k (L k) = true then x = .inl (nI (k + 1), wFst C L (k + 1), wHer C L (k + 1)) ∧ jWi md c s M0 q tp n i w L H0 (k + 1) M1 else ∃ qf, x = .inr (.inr qf) ∧ jTh0 md (c + 1) (s + 8) M0 q H0 (2, i + k) qf M1) := by
          have put : jo (jf_X2_word_j152 N q (some eA) (nI (cE C)) (some w) (nI k) (wFst C L (k + 1)) (iI z) (nI (lFp C (L k)))) M (fun x M1 => if wNx C L k (L k) = true then x = .inl (nI (k + 1), wFst C L (k + 1), wHer C L (k + 1)) ∧ jWi md c s M0 q tp n i w L H0 (k + 1) M1 else ∃ qf, x = .inr (.inr qf) ∧ jTh0 md (c + 1) (s + 8) M0 q H0 (2, i + k) qf M1) := by
            unfold jf_X2_word_j152
            refine jX_stI h3 rfl (by omega) (by decide) h5 (fun M1 e1 E1 => ?_)
            have q1 : jMk md M1.2.2 q = some (jRq tp n (i + k)) := by rw [e1, va_up_ne _ _ (Ne.symm hwq)]; exact h1
            refine jX_at q1 E1 (fun M2 a2 => jo_ret ?_)
            rw [if_pos nx]
            obtain ⟨b1, b2, b3⟩ := a2
            have sq1 : jSq q H0 (jMk md M1.2.2) := fun a e ha hh => by
              rw [e1, va_up_ne _ _ (fun y => by rw [y, hw0] at hh; cases hh)]
              exact h2 a e ha hh
            refine ⟨?_, b1, sq1.tr b2, ⟨upd g k (iI z), b2 _ _ hwq (by rw [e1, va_up_self]), fun j hj => ?_⟩, b3⟩
            · show Sum.inl (nI k + 1, _, _) = _
              rw [nI_1]
              rfl
            · show (if j = k then iI z else g j) = _
              by_cases ej : j = k
              · rw [if_pos ej, ej, y1]
              · rw [if_neg ej]; exact h4 j (by omega)
          unfold jf_X2_word_j128
          by_cases z0 : 0 ≤ z
          · refine jo_t (show iI 0 ≤ iI z by rw [iI_leI (by omega) (by omega)]; exact z0) (jx_edp (k := 1) hep jMk.sub ce (by decide) ?_)
            have : lFp C (L k) = cEd C e0 1 := by unfold lFp; rw [y5, if_neg (by omega)]
            rw [← this]; exact put
          · refine jo_f (show ¬ iI 0 ≤ iI z by rw [iI_leI (by omega) (by omega)]; exact z0) (jx_edp (k := 0) hep jMk.sub ce (by decide) ?_)
            have : lFp C (L k) = cEd C e0 0 := by unfold lFp; rw [y5, if_pos (by omega)]
            rw [← this]; exact put
        by_cases k0 : k = 0
        · subst k0
          exact jo_t (by rfl) tail
        · refine jo_f (show ¬ nI k = nI 0 by rw [nI_eq (by omega) (by omega)]; exact k0) ?_
          have : wFst C L k = wFst C L (k + 1) := by unfold wFst; rw [if_neg k0, if_neg (by omega)]
          rw [this]; exact tail
      unfold jf_X2_word_j92 jf_X2_word_j107
      by_cases k0 : k = 0
      · subst k0
        exact jo_t (by rfl) (good (by unfold wNx; exact decide_eq_true ⟨hl0, by omega, .inl rfl⟩))
      · refine jo_f (show ¬ nI k = nI 0 by rw [nI_eq (by omega) (by omega)]; exact k0) ?_
        have hv : wHer C L k = nI (lFp C (L (k - 1))) := by unfold wHer; rw [if_neg k0]
        have hlk := hl (k - 1) (by omega)
        have lt7 := lBp_lt hW hlk.1 hlk.2.1 hlk.2.2
        by_cases e : lFp C (L (k - 1)) = lBp C (L k)
        · refine jo_t (by rw [hv, e]) (good (by unfold wNx; exact decide_eq_true ⟨hl0, by omega, .inr e⟩))
        · refine jo_f (by rw [hv, nI_eq (by omega) (by omega)]; exact fun y => e y.symm) ?_
          have nx : ¬ wNx C L k (L k) = true := by unfold wNx; rw [decide_eq_true_iff]; rintro ⟨_, _, y | y⟩; exact k0 y; exact e y
          unfold jf_X2_word_j112
          exact jo_cl (mkg h1).2 (jX_must hM h5 h1 2 (fun _ qf M1 hth => jo_ret (bad nx qf M1 hth)) (fun y => absurd rfl y))
    by_cases z0 : 0 ≤ z
    · refine jo_t (show iI 0 ≤ iI z by rw [iI_leI (by omega) (by omega)]; exact z0) (jx_edp (k := 0) hep jMk.sub ce (by decide) ?_)
      have : lBp C (L k) = cEd C e0 0 := by unfold lBp; rw [y5, if_neg (by omega)]
      rw [← this]; exact rest
    · refine jo_f (show ¬ iI 0 ≤ iI z by rw [iI_leI (by omega) (by omega)]; exact z0) (jx_edp (k := 1) hep jMk.sub ce (by decide) ?_)
      have : lBp C (L k) = cEd C e0 1 := by unfold lBp; rw [y5, if_pos (by omega)]
      rw [← this]; exact rest
  by_cases z0 : 0 ≤ z
  · refine jo_t (show iI 0 ≤ iI z by rw [iI_leI (by omega) (by omega)]; exact z0) ?_
    have : iI z = nI z.toNat := by rw [nI_iI, Int.toNat_of_nonneg z0]
    have m := main z.toNat (by rw [if_pos z0, Int.toNat_of_nonneg z0])
    rw [← this] at m
    exact m
  · refine jo_f (show ¬ iI 0 ≤ iI z by rw [iI_leI (by omega) (by omega)]; exact z0) ?_
    have : (-1 : Int32) - iI z = nI (-1 - z).toNat := by rw [show (-1 : Int32) = iI (-1) from rfl, iI_sub, nI_iI, Int.toNat_of_nonneg (by omega)]
    rw [this]
    exact main _ (by rw [if_neg z0, Int.toNat_of_nonneg (by omega)])
theorem jx_wordLoop (hM : ∀ a, md a = true → a < M0.1) {H0 : HM} {eA nE w : Nat} {L : Nat → Int} (hL : L = fun j => lb C (t (i + j))) (hq0 : H0 q = some (jRq tp n i)) (ht0 : jRt tp n t H0) (hw0 : H0 w = none) (he : jEp eA nE C H0) (hW : jWf C) (hi : i ≤ 90) :
    ∀ (g k N' : Nat) (M : Mem), k ≤ 4 → 6 ≤ g + k → 10 ≤ N' + k → jWi md c s M0 q tp n i w L H0 k M → wLs C L k →
    jo (jm_it (fun z => jf_X2_word_L15 N q (some eA) (nI (cE C)) (some w) z.1 z.2.1 z.2.2) N' (nI k, wFst C L k, wHer C L k)) M (fun x M1 => match pWord n t C i g k with
      | .inl e => ∃ qf, x = .inr qf ∧ jTh0 md (c + 1) (s + 8) M0 q H0 e qf M1
      | .inr k' => x = .inl (nI k', wFst C L k', wHer C L k') ∧ k' ≤ 4 ∧ wLs C L k' ∧ jWi md c s M0 q tp n i w L H0 k' M1) := by
  intro g
  induction g with
  | zero => intro k N' M h1 h2 h3 h4 h5; omega
  | succ g ih =>
    intro k N' M h1 h2 h3 h4 h5
    obtain ⟨N', rfl⟩ : ∃ n', N' = n' + 1 := ⟨N' - 1, by omega⟩
    unfold pWord
    by_cases ctk : tk n t (i + k) = 1
    · rw [if_pos ctk]
      have hLk : lb C (t (i + k)) = L k := by rw [hL]
      have hLL : (fun j => lb C (t (i + j))) = L := hL.symm
      rw [hLk, hLL]
      refine jo_its (jo_mono (jx_wordStep (N := N) hM hL hq0 ht0 hw0 he hW h1 hi h4 h5 ctk) ?_)
      intro x M1 hx
      by_cases nx : wNx C L k (L k) = true
      · rw [if_pos nx] at hx ⊢
        obtain ⟨rfl, hx⟩ := hx
        have nx' := nx
        unfold wNx at nx'
        have nx' := of_decide_eq_true nx'
        have rg := lb_rg hW (t (i + k))
        rw [hLk] at rg
        have h5' : wLs C L (k + 1) := fun j hj => by
          by_cases e : j = k
          · subst e; exact ⟨nx'.1, rg.1, rg.2⟩
          · exact h5 j (by omega)
        exact ih (k + 1) N' M1 (by omega) (by omega) (by omega) hx h5'
      · rw [if_neg nx] at hx ⊢
        obtain ⟨qf, rfl, hx⟩ := hx
        exact ⟨qf, rfl, hx⟩
    · rw [if_neg ctk]
      have h7 := h4
      obtain ⟨b1, b2, b3, b4⟩ := h4
      have ht : jRt tp n t (jMk md M.2.2) := ht0.sq hq0 b2
      have st : (jf_X2_word_L15 N q (some eA) (nI (cE C)) (some w) (nI k) (wFst C L k) (wHer C L k)).1 M = some (.inr (.inl (nI k, wFst C L k, wHer C L k)), M) := by
        refine jo_out ?_
        unfold jf_X2_word_L15
        refine jo_cl (mkg b1).2 (jo_eq (jx_token (mkg b1).2 (ht.sub jMk.sub) (by omega)) (jo_f ?_ (jo_ret ⟨rfl, rfl⟩)))
        have hle : tk n t (i + k) ≤ 4 := by unfold tk; split; exact (tkc_le _).1; omega
        show ¬ nI (tk n t (i + k)) = nI 1
        rw [nI_eq (by omega) (by omega)]; exact ctk
      exact jo_its (jo_of st ⟨rfl, h1, h5, h7⟩)
end WD
