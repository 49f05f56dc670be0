/-! PLAIN LAW, 59: bound, drawn: component -/
section BO
variable {N x : Nat} {md : Nat → Bool} {c s : Nat} {M0 M : Mem} {T : ST}
theorem jsum_tail {n : Nat} {f : Nat → Int} : ∀ k, (∀ e, n ≤ e → f e = 0) → jsum (n + k) f = jsum n f := by
  intro k h
  induction k with
  | zero => rfl
  | succ k ih =>
    show jsum (n + k) f + f (n + k) = _
    rw [ih, h (n + k) (by omega)]; omega
theorem jx_others {q n : Nat} {g : Nat → Int32} {z : Nat → Int} (h : M.2.2 q = some (aI 0 6 g)) (hg : ∀ e, e < 6 → g e = iI (if e < n then z e else 0)) (hz : ∀ e, e < n → -9 ≤ z e ∧ z e ≤ 9) (hn : n ≤ 6) (hN : 100 < N) : (jf_X0_others N (some q)).1 M = some (iI (jsum n (fun e => if z e = 0 then 0 else 1)), M) := by
  have e1 : jsum n (fun e => if z e = 0 then 0 else 1) = jsum 6 (fun e => if (if e < n then z e else 0) = 0 then (0 : Int) else 1) := by
    rw [show 6 = n + (6 - n) by omega, jsum_tail]
    · refine jsum_cg (fun k hk => ?_)
      rw [if_pos hk]
    · intro e he
      rw [if_neg (show ¬ e < n by omega), if_pos rfl]
  rw [e1]
  refine jo_out ?_
  unfold jf_X0_others jf_X0_others_k10_41
  refine jo_len h rfl (jo_eq (jl_sum (n := 6) (fun e => if (if e < n then z e else 0) = 0 then (0 : Int) else 1) ?_ ?_ (by omega)) (jo_ret ⟨rfl, rfl⟩))
  · intro k v hk
    refine jo_out ?_
    unfold jf_X0_others_L10 jf_X0_others_j33
    refine jo_f (show ¬ nI 6 ≤ nI k by rw [nI_leI (by omega) (by omega)]; omega) (jo_ldI h rfl hk (by decide) ?_)
    rw [hg k hk]
    have hb : -9 ≤ (if k < n then z k else 0) ∧ (if k < n then z k else 0) ≤ 9 := by
      by_cases kn : k < n
      · rw [if_pos kn]; exact hz k kn
      · rw [if_neg kn]; omega
    generalize (if k < n then z k else 0) = y at hb
    by_cases e : y = 0
    · refine jo_t (show iI y = iI 0 by rw [e]) (jo_ret ⟨?_, rfl⟩)
      show Sum.inl (iI v + iI 0, nI k + 1) = _
      rw [iI_add, nI_1, if_pos e]
    · refine jo_f (show ¬ iI y = iI 0 by rw [iI_eqI (by omega) (by omega)]; exact e) (jo_ret ⟨?_, rfl⟩)
      show Sum.inl (iI v + iI 1, nI k + 1) = _
      rw [iI_add, nI_1, if_neg e]
  · intro v
    refine jo_out ?_
    unfold jf_X0_others_L10
    exact jo_t (show nI 6 ≤ nI 6 by decide) (jo_ret ⟨rfl, rfl⟩)
theorem jx_Doften {a w l : Nat} {L : Nat → Int} (h : jFa a w l L M.2.2) (hl : wRg l L) (hN : 100 < N) {e : Nat} (he : e < 100) : (jf_D_X7_often N (some a) (nI e)).1 M = some (iI (wTwo l L e), M) := by
  refine jo_out ?_
  have h0 := h
  obtain ⟨wa, g, h1, -⟩ := h
  unfold jf_D_X7_often
  cases hs : wSl l L with
  | true =>
    rw [hs] at h1
    refine jo_rd (x := (a, 8)) (by unfold jm_kl; simp only [h1]; rfl) (jo_f (show ¬ (8 : Nat) = 7 by decide) (jo_t rfl ?_))
    exact jo_of (jx_often h0 hl hN he) ⟨rfl, rfl⟩
  | false =>
    rw [hs] at h1
    refine jo_rd (x := (a, 7)) (by unfold jm_kl; simp only [h1]; rfl) (jo_t rfl ?_)
    exact jo_of (jx_often h0 hl hN he) ⟨rfl, rfl⟩
theorem wRg_of {C : CX} (hW : jWf C) {f : Nat} (hf : f < cF C) : wRg (cFl C f) (cLt C f) := by
  have h := hW.2.2.2.2.1 f hf
  have h6 := hW.2.1
  refine ⟨h.2.2.2.1, fun k hk => ?_⟩
  have := h.2.2.2.2 k hk
  omega
/-- a chain is laid, the act noted, the chain counted -/
theorem jx_chTail (h : jRX x T (jMk md M.2.2)) (hM : ∀ a, md a = true → a < M0.1) (hE : jExt md c s M0 M) (hW : jWfS T) (hN : 1000 < N) (hp : 0 < cP (sC T)) {ci q : Nat} {g : Nat → Int32} {G : Nat → Nat → Int} (hc : ci < 3) (hq : jMk md M.2.2 q = some (aI 0 6 g)) (hg : ∀ e, e < 6 → g e = iI (if e < cE (sC T) then G ci e else 0)) (hz : ∀ e, e < cE (sC T) → -9 ≤ G ci e ∧ G ci e ≤ 9) (hk : ∀ k e, k < 3 → k ≠ ci → e < cE (sC T) → G k e = cCh (sC T) k e) : jo (jf_X0_drawn_k44_89 N x (nI ci) (some q)) M (jOX x md (c + 2) (s + 7) M0 (iI (cOth (xCh (sC T) G) ci), sPush T (xCh (sC T) G))) := by
  have hR := h
  have h7 := hW.1.2.1
  obtain ⟨its, tp, pa, im, tf, pf, mf, h⟩ := h
  obtain ⟨b, rfl, hb⟩ := h.ge hp
  obtain ⟨vb, b1⟩ := hb.ob
  unfold jf_X0_drawn_k44_89
  refine jo_fR (mkg h.ob).2 (by decide) rfl (jo_cl (mkg b1).2 ?_)
  refine jo_bd (jo_mono (jx_withChain (C' := xCh (sC T) G) hM hE hb hc hq ⟨rfl, rfl, rfl, rfl, rfl, rfl, rfl⟩ hg hk) ?_)
  rintro r M3 ⟨q', rfl, s3, E3, hq'⟩
  refine jo_cl (mkg (s3 _ _ h.ob)).2 (jx_acts E3 (hR.sub s3) hW hN hp hq' hp (fun M4 h4 E4 k4 => ?_))
  have o4 : jMk md M4.2.2 q = some (aI 0 6 g) := k4 _ _ (s3 _ _ hq) rfl
  exact jo_eq (jx_others (mkg o4).2 hg hz h7 (by omega)) (jo_ret ⟨rfl, h4, E4⟩)
theorem jx_drawn (h : jRX x T (jMk md M.2.2)) (hM : ∀ a, md a = true → a < M0.1) (hE : jExt md c s M0 M) (hW : jWfS T) (hN : 1000 < N) {ci v : Int32} : jo (jf_X0_drawn N x ci v) M (jOX x md (c + 3) (s + 13) M0 (oDrawn T ci v)) := by
  have hR := h
  have w1 := hW.1
  have w2 := w1.2.1
  have hE' := hE.mono (show c ≤ c + 3 by omega) (show s ≤ s + 13 by omega)
  obtain ⟨its, tp, pa, im, tf, pf, mf, h⟩ := h
  unfold jf_X0_drawn oDrawn
  refine jo_fQ (r := its) (mkg h.ob).2 (by decide) rfl ?_
  have hcx := h.cx
  cases its with
  | none =>
    rw [if_pos (show ¬ 0 < cP (sC T) by have := hcx.1; omega)]
    exact jo_t rfl (jo_ret ⟨rfl, hR, hE'⟩)
  | some q =>
    obtain ⟨hp, hq⟩ : 0 < cP (sC T) ∧ jCx q (sC T) (jMk md M.2.2) := hcx
    rw [if_neg (show ¬ ¬ 0 < cP (sC T) from fun y => y hp)]
    refine jo_ne (jo_eq jx_isChain ?_)
    refine jo_bI (fun c2 => ?_) (fun c2 => ?_)
    · rw [if_pos (.inl c2)]; exact jo_ret ⟨rfl, hR, hE'⟩
    refine jo_eq (in32X (a := 1) (b := 999999) rfl rfl) ?_
    refine jo_bI (fun c3 => ?_) (fun c3 => ?_)
    · rw [if_pos (.inr c3)]; exact jo_ret ⟨rfl, hR, hE'⟩
    rw [if_neg (show ¬ (¬ (0 ≤ ci.toInt ∧ ci.toInt ≤ 2) ∨ ¬ (1 ≤ v.toInt ∧ v.toInt ≤ 999999)) from fun y => y.elim (fun z => z c2) (fun z => z c3))]
    obtain ⟨c', h1, rfl, h3⟩ := n_of (n := 2) c2.1 c2.2 (by decide)
    rw [tn_nI (by omega), i32_l v]
    generalize v.toInt = z at c3
    refine jo_ck (by decide) ?_
    rw [show (6 : Int32).toNatClampNeg = 6 from nI_tc (n := 6) (by decide)]
    refine jX_al (hE.md hM) hE fun q7 M1 hq7 m1 e1 E1 => ?_
    refine jo_bd (jo_mono (jo_up (cE (sC T)) (fun i y M' => y = (jI (sdr z i), nI i) ∧ jExt md (c + 1) (s + 6) M0 M' ∧ ∃ g, jMk md M'.2.2 = va_up (jMk md M.2.2) q7 (some (aI 0 6 g)) ∧ ∀ e, e < 6 → g e = iI (if e < i then sdr z (e + 1) % 19 - 9 else 0)) (fun _ M' => jExt md (c + 1) (s + 6) M0 M' ∧ ∃ g, jMk md M'.2.2 = va_up (jMk md M.2.2) q7 (some (aI 0 6 g)) ∧ ∀ e, e < 6 → g e = iI (if e < cE (sC T) then sdr z (e + 1) % 19 - 9 else 0)) ?_ ?_ N 0 _ M1 ⟨rfl, E1, fun _ => 0, e1, fun e he => by rw [if_neg (by omega)]; rfl⟩ (Nat.zero_le _) (by omega)) ?_)
    · rintro i y M' hi ⟨rfl, EE, g, ee, hg⟩
      have ss : jSub (jMk md M.2.2) (jMk md M'.2.2) := by rw [ee]; exact jSub.new hq7
      obtain ⟨eA, fA, cA, b1, ⟨er, b2, b9⟩, -⟩ := hq
      unfold jf_X0_drawn_L44
      refine jo_fR (mkg (ss _ _ h.ob)).2 (by decide) rfl (jo_fR (mkg (ss _ _ b1)).2 (by decide) rfl (jo_len (mkg (ss _ _ b2)).2 rfl ?_))
      refine jo_f (show ¬ nI (cE (sC T)) ≤ nI i by rw [nI_leI (by omega) (by omega)]; omega) ?_
      dsimp only
      rw [sdr_step (by omega) (by omega)]
      refine jo_lt ?_
      rw [sdr_row (by omega) (by omega)]
      refine jX_stI (n := 6) (f := g) (j := i) (by rw [ee, va_up_self]) rfl (by omega) (by decide) EE (fun M2 e2 E2 => jo_ret ⟨?_, E2, upd g i (iI (sdr z (i + 1) % 19 - 9)), ?_, fun e he => ?_⟩)
      · show (jI _, nI i + 1) = _
        rw [nI_1]
      · rw [e2, ee, va_up2]
      · show (if e = i then _ else _) = _
        by_cases ei : e = i
        · rw [if_pos ei, if_pos (by omega), ei]
        · rw [if_neg ei, hg e he]
          by_cases e2 : e < i
          · rw [if_pos e2, if_pos (by omega)]
          · rw [if_neg e2, if_neg (by omega)]
    · rintro y M' ⟨rfl, EE, g, ee, hg⟩
      have ss : jSub (jMk md M.2.2) (jMk md M'.2.2) := by rw [ee]; exact jSub.new hq7
      obtain ⟨eA, fA, cA, b1, ⟨er, b2, b9⟩, -⟩ := hq
      unfold jf_X0_drawn_L44
      refine jo_fR (mkg (ss _ _ h.ob)).2 (by decide) rfl (jo_fR (mkg (ss _ _ b1)).2 (by decide) rfl (jo_len (mkg (ss _ _ b2)).2 rfl ?_))
      exact jo_t (show nI (cE (sC T)) ≤ nI (cE (sC T)) by rw [nI_leI (by omega) (by omega)]; omega) (jo_ret ⟨EE, g, ee, hg⟩)
    · rintro _ M2 ⟨EE, g, ee, hg⟩
      have ss : jSub (jMk md M.2.2) (jMk md M2.2.2) := by rw [ee]; exact jSub.new hq7
      refine jo_mono (jx_chTail (ci := c') (q := q7) (g := g) (G := fun c'' e => if c'' = c' ∧ e < cE (sC T) then sdr z (e + 1) % 19 - 9 else cCh (sC T) c'' e) (hR.sub ss) hM EE hW hN hp (by omega) (by rw [ee, va_up_self]) (fun e he => ?_) (fun e he => ?_) (fun k e hk ek he => ?_)) (fun r M' hr => ⟨hr.1, hr.2.1, hr.2.2.mono (by omega) (by omega)⟩)
      · rw [hg e he]
        by_cases el : e < cE (sC T)
        · rw [if_pos el, if_pos el, if_pos ⟨rfl, el⟩]
        · rw [if_neg el, if_neg el]
      · rw [if_pos ⟨rfl, he⟩]; omega
      · rw [if_neg (fun y => ek y.1)]
end BO
