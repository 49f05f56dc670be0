/-! PLAIN LAW, 88: the component's reader: all of a text -/
section AL
variable {β : Type} {Q : β → Mem → Prop} {md : Nat → Bool} {N q tp n c s : Nat} {t : Nat → Nat} {M M0 : Mem} {tt : Nat → jm_P β}
/-- the object of the complex that was read -/
theorem jx_all201 (hM : ∀ a, md a = true → a < M0.1) (hE : jExt md c s M0 M) {i eA fA : Nat} {C : CX} (hq : jMk md M.2.2 q = some (jRq tp n i)) (he : jEp eA 6 C (jMk md M.2.2)) (hf : jFp fA 4 C (jMk md M.2.2)) (hW : jWf C) (hZ : ∀ k e, cCh C k e = 0) : jo (jf_X2_all_j201 N (nI (cP C)) (some eA) (nI (cE C)) (some fA) (nI (cF C)) (some q) 1) M (fun x M1 => ∃ q', x = .inl (some q') ∧ jSub (jMk md M.2.2) (jMk md M1.2.2) ∧ jCx q' C (jMk md M1.2.2) ∧ jExt md (c + 7) (s + 35) M0 M1) := by
  have h6 := hW.2.1
  have h4 := hW.2.2.1
  obtain ⟨er, g1, g2, g3, g4⟩ := he
  obtain ⟨fr, f1, f2, f4⟩ := hf
  unfold jf_X2_all_j201
  refine jo_cl (mkg hq).2 (jX_must hM hE hq 1 (fun y => absurd y (by decide)) (fun _ => ?_))
  refine jo_ck (ckL (by omega)) ?_
  rw [nI_tc (by omega)]
  refine jX_al (hE.md hM) hE fun q14 M1 n1 _ e1 E1 => ?_
  have s1 : jSub (jMk md M.2.2) (jMk md M1.2.2) := by rw [e1]; exact jSub.new n1
  refine jX_cpR (n0 := 6) (n1 := cE C) (s1 _ _ g1) (by rw [e1, va_up_self]) g2 (Nat.le_refl _) (by omega) (fun i hi => ?_) E1 (fun M2 e2 E2 => ?_)
  · obtain ⟨a, a1, a2⟩ := g4 i hi
    rw [a1]
    exact fit56 (mkg (s1 _ _ a2)).2
  have s2 : jSub (jMk md M.2.2) (jMk md M2.2.2) := by rw [e2, e1, va_up2]; exact jSub.new n1
  have o2 : jMk md M2.2.2 q14 = some (aR 4 (cE C) (va_cpy er (fun _ => none) 0 0 (cE C))) := by rw [e2, va_up_self]
  refine jo_ck (ckL (by omega)) ?_
  rw [nI_tc (by omega)]
  refine jX_al (E2.md hM) E2 fun q20 M3 n3 _ e3 E3 => ?_
  have s3 : jSub (jMk md M2.2.2) (jMk md M3.2.2) := by rw [e3]; exact jSub.new n3
  refine jX_cpR (n0 := 4) (n1 := cF C) (s3 _ _ (s2 _ _ f1)) (by rw [e3, va_up_self]) f2 (Nat.le_refl _) (by omega) (fun i hi => ?_) E3 (fun M4 e4 E4 => ?_)
  · obtain ⟨a, a1, a2⟩ := f4 i hi
    rw [a1]
    exact fit78 ((a2.kp (s2.tr s3).kp).kp jMk.sub.kp)
  have s4 : jSub (jMk md M2.2.2) (jMk md M4.2.2) := by rw [e4, e3, va_up2]; exact jSub.new n3
  have o4 : jMk md M4.2.2 q20 = some (aR 5 (cF C) (va_cpy fr (fun _ => none) 0 0 (cF C))) := by rw [e4, va_up_self]
  refine jX_al (E4.md hM) E4 fun q25 M5 n5 _ e5 E5 => ?_
  have s5 : jSub (jMk md M4.2.2) (jMk md M5.2.2) := by rw [e5]; exact jSub.new n5
  refine jo_ck (by decide) ?_
  rw [show (3 : Int32).toNatClampNeg = 3 from nI_tc (n := 3) (by decide), show (6 : Int32).toNatClampNeg = 6 from nI_tc (n := 6) (by decide)]
  refine jX_ml hM E5 fun q28 r cr M6 m1 m2 m3 m4 s6 o6 o6' E6 => ?_
  have o25 : jMk md M6.2.2 q25 = some (.inr (9, [.int 0, .null, .null, .null])) := s6 _ _ (by rw [e5, va_up_self])
  refine jX_in9 o25 E6 (fun M7 e7 E7 => jo_ret ?_)
  have s7 : ∀ a e, jMk md M4.2.2 a = some e → jMk md M7.2.2 a = some e := fun a e h => by
    rw [e7, va_up_ne _ _ (fun y => by rw [y, n5] at h; cases h)]
    exact s6 _ _ (s5 _ _ h)
  refine ⟨q25, rfl, ?_, ⟨q14, q20, q28, ?_, ?_, ?_, ?_⟩, E7.mono (by omega) ?_⟩
  · exact fun a e h => s7 a e (s4 _ _ (s2 _ _ h))
  · rw [e7, va_up_self]; rfl
  · refine ⟨_, s7 _ _ (s4 _ _ o2), fun e he => ?_⟩
    obtain ⟨a, a1, a2⟩ := g4 e he
    refine ⟨a, ?_, s7 _ _ (s4 _ _ (s2 _ _ a2))⟩
    unfold va_cpy
    rw [if_pos (by omega), Nat.sub_zero, Nat.zero_add, a1]
  · refine ⟨_, s7 _ _ o4, fun e he => ?_⟩
    obtain ⟨a, a1, a2⟩ := f4 e he
    refine ⟨a, ?_, a2.kp (fun b e hb _ => s7 _ _ (s4 _ _ (s2 _ _ hb)))⟩
    unfold va_cpy
    rw [if_pos (by omega), Nat.sub_zero, Nat.zero_add, a1]
  · refine ⟨cr, ?_, fun d hd => ⟨r d, fun _ => 0, m4 d hd, ?_, fun e he => ?_⟩⟩
    · rw [e7, va_up_ne _ _ (fun y => by rw [y, o25] at o6; cases o6)]; exact o6
    · rw [e7, va_up_ne _ _ (fun y => by have := o6' d hd; rw [y, o25] at this; cases this)]; exact o6' d hd
    · rw [hZ]
      split <;> rfl
  · show s + cE C + cF C + 4 + 21 ≤ s + 35
    omega
theorem jX_all {kk : Option Nat → jm_P β} (hM : ∀ a, md a = true → a < M0.1) (hN : 1000 < N) (hE : jExt md c s M0 M) (hq : jMk md M.2.2 q = some (jRq tp n 0)) (ht : jRt tp n t (jMk md M.2.2)) (hn : n ≤ 90)
    (hf : ∀ e, pAll n t = .inl e → ∀ qf M1, jTh md (c + 40) (s + 200) M0 q M e qf M1 → jo (tt qf) M1 Q)
    (hk : ∀ C, pAll n t = .inr C → ∀ q' M1, jSq q (jMk md M.2.2) (jMk md M1.2.2) → jCx q' C (jMk md M1.2.2) → jWf C → 0 < cP C → jExt md (c + 40) (s + 200) M0 M1 → jo (kk (some q')) M1 Q) :
    jo (jm_bx (jf_X2_all N q) tt kk) M Q := by
  refine jo_bx ?_
  unfold jf_X2_all
  have thr : ∀ {e : PE} {qf : Nat} {M1 : Mem} {c' s' : Nat}, pAll n t = .inl e → jTh0 md c' s' M0 q (jMk md M.2.2) e qf M1 → c' ≤ c + 40 → s' ≤ s + 200 → jo (jm_ret (.inr qf : (Option Nat) ⊕ Nat)) M1 (jbk tt kk Q) := by
    intro e qf M1 c' s' hp h h1 h2
    exact jo_ret (jo_flt h.1 (hf e hp qf M1 ⟨h.1, h.2.1, h.2.2.mono h1 h2⟩))
  refine jo_cl (mkg hq).2 (jX_letter (x := 99) hM hE hq ht (by omega) (by decide) (fun hc qf M1 h1 => thr (by unfold pAll; rw [if_pos hc]) (h1.to jSq.rf) (by omega) (by omega)) (fun hc M1 ⟨o1, s1, E1⟩ => ?_))
  refine jo_cl (mkg o1).2 (jX_digit (lo := 1) (hi' := 6) hM E1 o1 (ht.sq hq s1) (by omega) rfl rfl (by omega) (by omega) (fun e hp qf M2 h2 => thr ?_ (h2.to s1) (by omega) (by omega)) (fun p hp M2 ⟨o2, s2, E2⟩ => ?_))
  · have hp : pDigit n t 1 6 1 = .inl e := hp
    unfold pAll; rw [if_neg (fun y => y hc), hp]
  have hp : pDigit n t 1 6 1 = .inr p := hp
  have rp := pDigit_rg hp
  have ss2 := s1.tr s2
  refine jo_cl (mkg o2).2 (jX_stop hM E2 o2 (ht.sq hq ss2) (by omega) (fun h3 qf M7 h7 => thr ?_ (h7.to ss2) (by omega) (by omega)) (fun h3 M3 ⟨o3, s3, E3⟩ => ?_))
  · have h3 : tk n t 2 ≠ 3 := h3
    unfold pAll pStop; rw [if_neg (fun y => y hc), hp]; dsimp only; rw [if_neg h3]
  have h3 : tk n t 2 = 3 := h3
  have lt2 := tk_lt' h3 (by decide)
  have ss3 := ss2.tr s3
  have hPs : pAll n t = match pEdges n t 8 (x0 p) 3 with
      | .inl e => .inl e
      | .inr x => match pFaces n t 8 x.1 x.2 with
        | .inl e => .inl e
        | .inr y => if tk n t y.2 = 0 then .inr y.1 else .inl (1, y.2) := by
    unfold pAll pStop; rw [if_neg (fun y => y hc), hp]; dsimp only; rw [if_pos h3]; rfl
  refine jo_ck (ckL (n := 6) (by decide)) (jX_al (E3.md hM) E3 fun eA M4 n4 _ e4 E4 => ?_)
  have s4 : jSub (jMk md M3.2.2) (jMk md M4.2.2) := by rw [e4]; exact jSub.new n4
  have W0 : jWf (x0 p) := ⟨by show p ≤ 5; omega, Nat.zero_le _, Nat.zero_le _, fun e he => absurd he (Nat.not_lt_zero _), fun f hf => absurd hf (Nat.not_lt_zero _), fun c e _ he => absurd he (Nat.not_lt_zero _)⟩
  have I4 : jEi md (c + 1) (s + 6) M0 q tp n eA (jMk md M3.2.2) (x0 p) 3 M4 := ⟨s4 _ _ o3, s4.sq, ⟨fun _ => none, by rw [e4, va_up_self]; rfl, Nat.zero_le _, by decide, fun e he => absurd he (Nat.not_lt_zero _)⟩, E4.mono (Nat.le_refl _) (Nat.le_refl _), by omega⟩
  refine jo_bd (jo_mono (jx_edgesLoop (N := N) hM ⟨_, o3⟩ (ht.sq hq ss3) n4 hn (show 0 < p by omega) 8 (x0 p) 3 N M4 W0 rfl rfl (fun _ _ => rfl) (by omega) (by omega) I4) ?_)
  intro x M5 hx
  cases hpE : pEdges n t 8 (x0 p) 3 with
  | inl e =>
    rw [hpE] at hx hPs
    obtain ⟨qf, rfl, hx⟩ := hx
    exact thr hPs ⟨hx.1, ss3.tr hx.2.1, hx.2.2⟩ (by omega) (by omega)
  | inr y =>
    rw [hpE] at hx hPs
    dsimp only at hx hPs
    obtain ⟨rfl, y1, y2, y3, y4, z1, z2, z3, z4, z5⟩ := hx
    have y6 := y1.2.1
    dsimp only
    unfold jf_X2_all_k25_106
    refine jo_ck (ckL (n := 4) (by decide)) (jX_al (z4.md hM) z4 fun fA M6 n6 _ e6 E6 => ?_)
    have s6 : jSub (jMk md M5.2.2) (jMk md M6.2.2) := by rw [e6]; exact jSub.new n6
    have I6 : jFi md (c + 8) (s + 28) M0 q tp n fA (jMk md M5.2.2) y.1 y.2 M6 := ⟨s6 _ _ z1, s6.sq, ⟨fun _ => none, by rw [e6, va_up_self]; rfl, by omega, fun e he => absurd he (by omega)⟩, E6.mono (by omega) (by show s + 6 + 3 * cE y.1 + 4 ≤ _; omega), z5⟩
    have lp := jx_facesLoop hM hN ⟨_, z1⟩ ((ht.sq hq ss3).sq o3 z2) z3 n6 hn 8 y.1 y.2 N M6 y1 rfl rfl rfl rfl (by omega) (by omega) I6
    rw [y2, y3] at lp
    refine jo_bd (jo_mono lp ?_)
    intro x M7 hx
    have ss5 := ss3.tr z2
    cases hpF : pFaces n t 8 y.1 y.2 with
    | inl e =>
      rw [hpF] at hx hPs
      obtain ⟨qf, rfl, hx⟩ := hx
      exact thr hPs ⟨hx.1, ss5.tr hx.2.1, hx.2.2⟩ (by omega) (by omega)
    | inr v =>
      rw [hpF] at hx hPs
      dsimp only at hx hPs
      obtain ⟨rfl, v1, v2, v3, v4, v5, w1, w2, w3, w4, w5⟩ := hx
      have v6 := v1.2.2.1
      have ss7 := ss5.tr w2
      have ht7 : jRt tp n t (jMk md M7.2.2) := ht.sq hq ss7
      have hle : tk n t v.2 ≤ 4 := by unfold tk; split; exact (tkc_le _).1; omega
      have ep7 : jEp eA 6 v.1 (jMk md M7.2.2) := by
        obtain ⟨er, g1, g2, g3, g4⟩ := z3.sq z1 w2
        refine ⟨er, g1, by omega, g3, fun e he => ?_⟩
        rw [v4]
        exact g4 e (by omega)
      dsimp only
      unfold jf_X2_all_k115_188
      refine jo_cl (mkg w1).2 (jo_eq (jx_token (mkg w1).2 (ht7.sub jMk.sub) (by omega)) ?_)
      by_cases t0 : tk n t v.2 = 0
      · rw [if_pos t0] at hPs
        refine jo_t (by rw [t0]; rfl) ?_
        have fin := jx_all201 (N := N) hM w4 w1 ep7 w3 v1 (fun k e => by rw [v5]; exact y4 k e)
        rw [v2, v3] at fin
        refine jo_mono fin ?_
        rintro _ M8 ⟨q', rfl, s8, hc8, E8⟩
        exact hk v.1 hPs q' M8 (ss7.tr s8.sq) hc8 v1 (by omega) (E8.mono (by omega) (by omega))
      · rw [if_neg t0] at hPs
        refine jo_f (show ¬ nI (tk n t v.2) = nI 0 by rw [nI_eq (by omega) (by omega)]; exact t0) ?_
        unfold jf_X2_all_j201
        refine jo_cl (mkg w1).2 (jX_must hM w4 w1 1 (fun _ qf M8 h8 => thr hPs (h8.to ss7) (by omega) (by omega)) (fun y => absurd rfl y))
end AL
