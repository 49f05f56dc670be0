/-! PLAIN LAW, 87: the component's reader: faces -/
section FL
variable {md : Nat → Bool} {N q tp n c s : Nat} {t : Nat → Nat} {M M0 : Mem}
def jFi (md : Nat → Bool) (c s : Nat) (M0 : Mem) (q tp n : Nat) (fA : Nat) (H0 : HM) (C : CX) (i : Nat) (M : Mem) : Prop := jMk md M.2.2 q = some (jRq tp n i) ∧ jSq q H0 (jMk md M.2.2) ∧ jFp fA 4 C (jMk md M.2.2) ∧ jExt md (c + 4 * cF C) (s + 12 * cF C) M0 M ∧ i ≤ n
/-- a face as the component reads it -/
def pFace2 (n : Nat) (t : Nat → Nat) (C : CX) (i : Nat) : PE ⊕ (CX × Nat) :=
  if cF C = 4 then .inl (3, i) else match pDigit n t 1 4 (i + 1) with
  | .inl e => .inl e
  | .inr w => match pW n t C (i + 2) with
    | .inl e => .inl e
    | .inr (k, _) => if tk n t (i + 2 + k) = 3 then .inr (xFace C w k (fun j => lb C (t (i + 2 + j))), i + 3 + k) else .inl (1, i + 2 + k)
theorem pFace2_eq {C : CX} {i : Nat} : pFace2 n t C i = pFace n t C i := by
  unfold pFace2 pFace
  by_cases c4 : cF C = 4
  · rw [if_pos c4, if_pos c4]
  rw [if_neg c4, if_neg c4]
  cases pDigit n t 1 4 (i + 1) with
  | inl e => rfl
  | inr w =>
    dsimp only
    unfold pW
    cases pWord n t C (i + 2) 6 0 with
    | inl e => rfl
    | inr k =>
      dsimp only
      by_cases k0 : k = 0
      · rw [if_pos k0, if_pos k0]
      rw [if_neg k0, if_neg k0]
      by_cases t3 : tk n t (i + 2 + k) = 3
      · rw [if_pos t3, if_pos t3]
        by_cases w : wCl C (fun j => lb C (t (i + 2 + j))) k = true
        · rw [if_pos w, if_pos w]
          dsimp only
          rw [if_pos t3]
        · rw [if_neg w, if_neg w]
      · rw [if_neg t3, if_neg t3]
        by_cases t0 : tk n t (i + 2 + k) = 0
        · rw [if_pos t0]
          dsimp only
          rw [if_neg t3]
        · rw [if_neg t0]
theorem pW_closed {C : CX} {i k : Nat} {b : Bool} (h : pW n t C i = .inr (k, b)) (h3 : tk n t (i + k) = 3) : b = true := by
  unfold pW at h
  cases hp : pWord n t C i 6 0 with
  | inl e => rw [hp] at h; cases h
  | inr k' =>
    rw [hp] at h
    dsimp only at h
    by_cases k0 : k' = 0
    · rw [if_pos k0] at h; cases h
    rw [if_neg k0] at h
    by_cases t3 : tk n t (i + k') = 3
    · rw [if_pos t3] at h
      by_cases w : wCl C (fun j => lb C (t (i + j))) k' = true
      · rw [if_pos w] at h; injection h with h; exact (congrArg Prod.snd h).symm
      · rw [if_neg w] at h; cases h
    · rw [if_neg t3] at h
      by_cases t0 : tk n t (i + k') = 0
      · rw [if_pos t0] at h
        injection h with h
        have := congrArg Prod.fst h
        dsimp only at this
        subst this
        exact absurd h3 t3
      · rw [if_neg t0] at h; cases h
theorem jx_faceStep (hM : ∀ a, md a = true → a < M0.1) (hN : 1000 < N) {H0 : HM} {eA fA i nE : Nat} {C : CX} (hq0 : ∃ j, H0 q = some (jRq tp n j)) (ht0 : jRt tp n t H0) (he0 : jEp eA nE C H0) (hf0 : H0 fA = none) (hW : jWf C) (hn : n ≤ 90) (hI : jFi md c s M0 q tp n fA H0 C i M) (c1 : i < n) (c2 : t i = 102) :
    jo (jf_X2_all_L115 N q (nI (cP C)) (some eA) (nI (cE C)) (some fA) (nI (cF C))) M (fun x M1 => match pFace n t C i with
      | .inl e => ∃ qf, x = .inr (.inr qf) ∧ jTh0 md (c + 20) (s + 80) M0 q H0 e qf M1
      | .inr y => x = .inl (nI (cF y.1)) ∧ jFi md c s M0 q tp n fA H0 y.1 y.2 M1 ∧ jWf y.1 ∧ cP y.1 = cP C ∧ cE y.1 = cE C ∧ cEd y.1 = cEd C ∧ cCh y.1 = cCh C ∧ cF y.1 = cF C + 1) := by
  obtain ⟨j0, hq0⟩ := hq0
  obtain ⟨b1, b2, b3, b4, b5⟩ := hI
  have h6 := hW.2.1
  have hp5 := hW.1
  have hf4 := hW.2.2.1
  have ht : jRt tp n t (jMk md M.2.2) := ht0.sq hq0 b2
  have h256 : t i < 256 := by obtain ⟨tf, _, _, z⟩ := ht; exact (z _ c1).2
  unfold jf_X2_all_L115
  refine jo_cl (mkg b1).2 (jo_eq (jx_look (mkg b1).2 (ht.sub jMk.sub) (by omega)) ?_)
  rw [if_pos c1, ← pFace2_eq]
  refine jo_t (by rw [c2]; rfl) ?_
  unfold jf_X2_all_j136 pFace2
  by_cases c6 : cF C = 4
  · rw [if_pos c6]
    refine jo_t (by rw [c6]; decide) (jo_cl (mkg b1).2 (jX_must hM b4 b1 3 (fun _ qf M1 h1 => jo_ret ⟨qf, rfl, h1.1, b2.tr h1.2.1, h1.2.2.mono (by omega) (by omega)⟩) (fun y => absurd rfl y)))
  rw [if_neg c6]
  refine jo_f (show ¬ nI 4 ≤ nI (cF C) by rw [nI_leI (by omega) (by omega)]; omega) (jo_cl (mkg b1).2 (jX_must hM b4 b1 3 (fun y => absurd y (by decide)) (fun _ => ?_)))
  refine jX_at b1 b4 (fun M1 ⟨o1, s1, E1⟩ => ?_)
  have ss1 := b2.tr s1
  refine jo_cl (mkg o1).2 (jX_digit (lo := 1) (hi' := 4) hM E1 o1 (ht0.sq hq0 ss1) (by omega) rfl rfl (by omega) (by omega) (fun e hp qf M2 h2 => ?_) (fun w hp M2 ⟨o2, s2, E2⟩ => ?_))
  · rw [hp]
    exact jo_ret ⟨qf, rfl, h2.1, ss1.tr h2.2.1, h2.2.2.mono (by omega) (by omega)⟩
  rw [hp]
  have rp := pDigit_rg hp
  have ss2 := ss1.tr s2
  refine jo_cl (mkg o2).2 (jX_word hM E2 o2 (ht0.sq hq0 ss2) (he0.sq hq0 ss2) hW (by omega) (by omega) (fun e hp2 qf M3 h3 => ?_) (fun k b hp2 r M3 hr ⟨o3, s3, E3⟩ hk => ?_))
  · have hp2 : pW n t C (i + 2) = .inl e := hp2
    dsimp only
    rw [hp2]
    exact jo_ret ⟨qf, rfl, h3.1, ss2.tr h3.2.1, h3.2.2.mono (by omega) (by omega)⟩
  have hp2' : pW n t C (i + 2) = .inr (k, b) := hp2
  dsimp only
  rw [hp2']
  have ss3 := ss2.tr s3
  refine jo_cl (mkg o3).2 (jX_stop hM E3 o3 (ht0.sq hq0 ss3) (by omega) (fun h3 qf M7 h7 => ?_) (fun h3 M7 ⟨o7, s7, E7⟩ => ?_))
  · have h3 : tk n t (i + 2 + k) ≠ 3 := h3
    dsimp only
    rw [if_neg h3]
    exact jo_ret ⟨qf, rfl, h7.1, ss3.tr h7.2.1, h7.2.2.mono (by omega) (by omega)⟩
  have h3 : tk n t (i + 2 + k) = 3 := h3
  have lt3 := tk_lt' h3 (by decide)
  have hb := pW_closed hp2' h3
  subst hb
  dsimp only
  rw [if_pos h3]
  rw [if_pos rfl] at hr
  obtain ⟨wa, g, rfl, w1, w2⟩ := hr
  have ss7 := ss3.tr s7
  have w7 : jMk md M7.2.2 wa = some (aI 0 k g) := s7 _ _ (fun e => by rw [e, o3] at w1; cases w1) w1
  have hl : wRg k (fun j => lb C (t (i + 2 + j))) := ⟨hk.2.1, fun j hj => by have h : lb C (t (i + 2 + j)) ≠ 0 ∧ -(cE C : Int) ≤ lb C (t (i + 2 + j)) ∧ lb C (t (i + 2 + j)) ≤ (cE C : Int) := hk.2.2 j hj; exact ⟨h.1, show -6 ≤ lb C (t (i + 2 + j)) by omega, show lb C (t (i + 2 + j)) ≤ 6 by omega⟩⟩
  refine jo_bd (jo_mono (jx_faceBy (w := w) (L := fun j => lb C (t (i + 2 + j))) hM E7 w7 w2 hl (by omega)) ?_)
  rintro r M8 ⟨fb, rfl, s8, E8, hfb⟩
  have f8 : jFp fA 4 C (jMk md M8.2.2) := (b3.sq b1 (((s1.tr s2).tr s3).tr s7)).sub s8
  have eq : fA ≠ q := fun e => by rw [e, hq0] at hf0; cases hf0
  obtain ⟨fr, g1, g2, g4⟩ := f8
  refine jX_stR (n := 4) (j := cF C) g1 rfl (by omega) (by decide) (fit78 (hfb.kp jMk.sub.kp)) E8 (fun M9 e9 E9 => ?_)
  have kp9 : ∀ {a w l : Nat} {L : Nat → Int}, jFa a w l L (jMk md M8.2.2) → jFa a w l L (jMk md M9.2.2) := fun h => by rw [e9]; exact h.up5 g1
  refine jo_ret ⟨?_, ⟨?_, fun a e ha hh => ?_, ?_, E9.mono ?_ ?_, by show i + 3 + k ≤ n; omega⟩, jWf_face hW (by omega) (by omega) ⟨hk.1, hk.2.1⟩ hk.2.2, rfl, rfl, rfl, rfl, rfl⟩
  · show Sum.inl (nI (cF C) + 1) = Sum.inl (nI (cF C + 1))
    rw [nI_1]
  · rw [e9, va_up_ne _ _ (Ne.symm eq)]
    have := s8 _ _ o7
    rw [show i + 1 + 1 + k + 1 = i + 3 + k by omega] at this
    exact this
  · rw [e9, va_up_ne _ _ (fun y => by rw [y, hf0] at hh; cases hh)]
    exact s8 _ _ (ss7 a e ha hh)
  · refine ⟨va_up fr (cF C) (some fb), by rw [e9, va_up_self], by show cF C + 1 ≤ 4; omega, fun f hf => ?_⟩
    have hf : f < cF C + 1 := hf
    by_cases ef : f = cF C
    · subst ef
      refine ⟨fb, va_up_self _ _ _, ?_⟩
      have : jFa fb w k (fun j => lb C (t (i + 2 + j))) (jMk md M9.2.2) := kp9 hfb
      show jFa fb (if cF C = cF C then w else _) (if cF C = cF C then k else _) (fun j => if cF C = cF C then _ else _) _
      simp only [if_true]
      exact this
    · obtain ⟨a, a1, a2⟩ := g4 f (by omega)
      refine ⟨a, by rw [va_up_ne _ _ ef]; exact a1, ?_⟩
      have := kp9 a2
      show jFa a (if f = cF C then w else _) (if f = cF C then k else _) (fun j => if f = cF C then _ else _) _
      simp only [if_neg ef]
      exact this
  · show c + 4 * cF C + 2 + 2 ≤ c + 4 * (cF C + 1); omega
  · show s + 12 * cF C + 8 + 4 ≤ s + 12 * (cF C + 1); omega
theorem jx_facesLoop (hM : ∀ a, md a = true → a < M0.1) (hN : 1000 < N) {H0 : HM} {eA fA nE : Nat} {Ce : CX} (hq0 : ∃ j, H0 q = some (jRq tp n j)) (ht0 : jRt tp n t H0) (he0 : jEp eA nE Ce H0) (hf0 : H0 fA = none) (hn : n ≤ 90) :
    ∀ (g : Nat) (C : CX) (i N' : Nat) (M : Mem), jWf C → cP C = cP Ce → cE C = cE Ce → cEd C = cEd Ce → cCh C = cCh Ce → 5 ≤ g + cF C → 10 ≤ N' + cF C → jFi md c s M0 q tp n fA H0 C i M →
    jo (jm_it (fun z => jf_X2_all_L115 N q (nI (cP Ce)) (some eA) (nI (cE Ce)) (some fA) z) N' (nI (cF C))) M (fun x M1 => match pFaces n t g C i with
      | .inl e => ∃ qf, x = .inr qf ∧ jTh0 md (c + 20) (s + 80) M0 q H0 e qf M1
      | .inr y => x = .inl (nI (cF y.1)) ∧ jWf y.1 ∧ cP y.1 = cP Ce ∧ cE y.1 = cE Ce ∧ cEd y.1 = cEd Ce ∧ cCh y.1 = cCh Ce ∧ jFi md c s M0 q tp n fA H0 y.1 y.2 M1) := by
  intro g
  induction g with
  | zero => intro C i N' M hW _ _ _ _ h1; have := hW.2.2.1; omega
  | succ g ih =>
    intro C i N' M hW hp hE hEd hCh h1 h2 hI
    obtain ⟨N', rfl⟩ : ∃ n', N' = n' + 1 := ⟨N' - 1, by have := hW.2.2.1; omega⟩
    have he : jEp eA nE C H0 := by
      obtain ⟨er, g1, g2, g3, g4⟩ := he0
      refine ⟨er, g1, by rw [hE]; exact g2, g3, fun e he => ?_⟩
      rw [hEd]
      exact g4 e (by rw [← hE]; exact he)
    unfold pFaces
    by_cases c1 : i < n ∧ t i = 102
    · rw [if_pos c1, ← hp, ← hE]
      refine jo_its (jo_mono (jx_faceStep hM hN hq0 ht0 he hf0 hW hn hI c1.1 c1.2) ?_)
      intro x M1 hx
      cases hpe : pFace n t C i with
      | inl e =>
        rw [hpe] at hx
        obtain ⟨qf, rfl, hx⟩ := hx
        exact ⟨qf, rfl, hx⟩
      | inr y =>
        rw [hpe] at hx
        obtain ⟨rfl, hx, k1, k2, k3, k4, k5, k6⟩ := hx
        dsimp only
        rw [hp, hE]
        exact ih y.1 y.2 N' M1 k1 (k2.trans hp) (k3.trans hE) (k4.trans hEd) (k5.trans hCh) (by omega) (by omega) hx
    · rw [if_neg c1]
      obtain ⟨b1, b2, b3, b4, b5⟩ := id hI
      obtain ⟨j0, hq0⟩ := hq0
      have ht : jRt tp n t (jMk md M.2.2) := ht0.sq hq0 b2
      have st : (jf_X2_all_L115 N q (nI (cP Ce)) (some eA) (nI (cE Ce)) (some fA) (nI (cF C))).1 M = some (.inr (.inl (nI (cF C))), M) := by
        refine jo_out ?_
        unfold jf_X2_all_L115
        refine jo_cl (mkg b1).2 (jo_eq (jx_look (mkg b1).2 (ht.sub jMk.sub) (by omega)) (jo_f ?_ (jo_ret ⟨rfl, rfl⟩)))
        by_cases c2 : i < n
        · have h256 : t i < 256 := by obtain ⟨tf, _, _, z⟩ := ht; exact (z _ c2).2
          rw [if_pos c2]
          show ¬ nI (t i) = nI 102
          rw [nI_eq (by omega) (by omega)]
          exact fun y => c1 ⟨c2, y⟩
        · rw [if_neg c2]
          decide +kernel
      exact jo_its (jo_of st ⟨rfl, hW, hp, hE, hEd, hCh, hI⟩)
end FL
