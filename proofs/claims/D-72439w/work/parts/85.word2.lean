/-! PLAIN LAW, 85: the component's reader: a word's end -/
section WE
variable {β : Type} {Q : β → Mem → Prop} {md : Nat → Bool} {N q tp n i c s : Nat} {t : Nat → Nat} {M M0 : Mem} {C : CX} {tt : Nat → jm_P β}
theorem wCl_iff {L : Nat → Int} {k : Nat} (hW : jWf C) (hk : 0 < k) (hl : wLs C L k) : wFst C L k = wHer C L k ↔ wCl C L k = true := by
  unfold wFst wHer wCl
  rw [if_neg (by omega), if_neg (by omega), decide_eq_true_iff]
  have h1 := hl 0 hk
  have h2 := hl (k - 1) (by omega)
  have b1 := lBp_lt hW h1.1 h1.2.1 h1.2.2
  have b2 := lBp_lt hW h2.1 h2.2.1 h2.2.2
  rw [nI_eq (by omega) (by omega)]
  exact ⟨fun h => ⟨hk, h.symm⟩, fun h => h.2.symm⟩
theorem jX_word {kk : Option Nat → jm_P β} (hM : ∀ a, md a = true → a < M0.1) (hE : jExt md c s M0 M) (hq : jMk md M.2.2 q = some (jRq tp n i)) (ht : jRt tp n t (jMk md M.2.2)) {eA nE : Nat} (he : jEp eA nE C (jMk md M.2.2)) (hW : jWf C) (hi : i ≤ 90) (hN : 100 < N)
    (hf : ∀ e, pW n t C i = .inl e → ∀ qf M1, jTh md (c + 3) (s + 16) M0 q M e qf M1 → jo (tt qf) M1 Q)
    (hk : ∀ k b, pW n t C i = .inr (k, b) → ∀ r M1, (if b = true then ∃ w g, r = some w ∧ jMk md M1.2.2 w = some (aI 0 k g) ∧ ∀ j, j < k → g j = iI (lDec (lb C (t (i + j)))) else r = none) → jOk md (c + 2) (s + 8) M0 q tp n M (i + k) M1 → 1 ≤ k ∧ k ≤ 4 ∧ wLs C (fun j => lb C (t (i + j))) k → jo (kk r) M1 Q) :
    jo (jm_bx (jf_X2_word N q (some eA) (nI (cE C))) tt kk) M Q := by
  refine jo_bx ?_
  unfold jf_X2_word
  refine jo_ck (ckL (n := 4) (by decide)) (jX_al (hE.md hM) hE fun w M1 hw _ e1 E1 => ?_)
  have s1 : jSub (jMk md M.2.2) (jMk md M1.2.2) := by rw [e1]; exact jSub.new hw
  generalize hL : (fun j => lb C (t (i + j))) = L at hk
  have o1 : jMk md M1.2.2 w = some (aI 0 4 (fun _ => 0)) := by rw [e1, va_up_self]; rfl
  have I1 : jWi md (c + 1) (s + 4) M0 q tp n i w L (jMk md M.2.2) 0 M1 := ⟨s1 _ _ hq, s1.sq, ⟨_, o1, fun j hj => absurd hj (Nat.not_lt_zero _)⟩, E1⟩
  have lp := jx_wordLoop (N := N) hM hL.symm hq ht hw he hW hi 6 0 N M1 (by omega) (by omega) (by omega) I1 (fun j hj => absurd hj (Nat.not_lt_zero _))
  refine jo_bd (jo_mono lp ?_)
  intro x M2 hx
  unfold pW at hf hk
  cases hp : pWord n t C i 6 0 with
  | inl e =>
    rw [hp] at hx hf
    obtain ⟨qf, rfl, hth⟩ := hx
    exact jo_ret (jo_flt hth.1 (hf e rfl qf M2 ⟨hth.1, hth.2.1, hth.2.2.mono (by omega) (by omega)⟩))
  | inr k =>
    rw [hp] at hx hf hk
    rw [hL] at hf
    dsimp only at hf
    simp only [hL] at hk
    obtain ⟨rfl, k4, hl, b1, b2, ⟨g, b3, b4⟩, b5⟩ := hx
    dsimp only
    have ht2 : jRt tp n t M2.2.2 := (ht.sq hq b2).sub jMk.sub
    have hle : tk n t (i + k) ≤ 4 := by unfold tk; split; exact (tkc_le _).1; omega
    -- a throw
    have thr : ∀ (v : Int32) (kd : Nat), v = 0 → ∀ (kk' : Unit → jm_P ((Option Nat) ⊕ Nat)), (∀ qf M3, jTh md (c + 3) (s + 16) M0 q M (kd, i + k) qf M3 → jo (tt qf) M3 Q) → jo (jm_bx (jf_X2_must N q v (nI kd)) (fun q8 => jm_ret (.inr q8)) kk') M2 (jbk tt kk Q) := by
      intro v kd hv kk' hh
      refine jX_must hM b5 b1 kd (fun _ qf M3 h3 => jo_ret (jo_flt h3.1 (hh qf M3 ⟨h3.1, b2.tr h3.2.1, h3.2.2.mono (by omega) (by omega)⟩))) (fun y => absurd hv y)
    unfold jf_X2_word_k15_176
    by_cases k0 : k = 0
    · subst k0
      refine jo_t (by decide) ?_
      unfold jf_X2_word_j201 jf_X2_word_j202
      exact jo_cl (mkg b1).2 (thr 0 1 rfl _ (fun qf M3 h3 => hf (1, i) rfl qf M3 h3))
    rw [if_neg k0] at hf hk
    have kp : 0 < k := by omega
    refine jo_f (show ¬ nI k ≤ nI 0 by rw [nI_leI (by omega) (by omega)]; omega) ?_
    have ftk : (jf_X2_token N q).1 M2 = some (nI (tk n t (i + k)), M2) := jx_token (mkg b1).2 ht2 (by omega)
    -- a new row for the word
    have fin : ∀ b : Bool, wCl C L k = b → (if tk n t (i + k) = 3 then (if wCl C L k = true then (Sum.inr (k, true) : PE ⊕ (Nat × Bool)) else .inl (2, i + k)) else if tk n t (i + k) = 0 then .inr (k, wCl C L k) else .inl (1, i + k)) = .inr (k, b) → jo (jf_X2_word_j226 N (some w) (nI k) (wFst C L k) (wHer C L k) (some q) 1) M2 (jbk tt kk Q) := by
      intro b hb hr
      unfold jf_X2_word_j226
      refine jo_cl (mkg b1).2 (jX_must hM b5 b1 2 (fun y => absurd y (by decide)) (fun _ => ?_))
      refine jo_ck (ckL (by omega)) ?_
      rw [nI_tc (by omega)]
      refine jX_al (b5.md hM) b5 fun q14 M3 hq14 _ e3 E3 => ?_
      have s3 : jSub (jMk md M2.2.2) (jMk md M3.2.2) := by rw [e3]; exact jSub.new hq14
      refine jX_cpI (n0 := 4) (n1 := k) (s3 _ _ b3) (by rw [e3, va_up_self]) k4 (Nat.le_refl _) (by omega) E3 (fun M4 e4 E4 => ?_)
      have s4 : jSub (jMk md M2.2.2) (jMk md M4.2.2) := by rw [e4, e3, va_up2]; exact jSub.new hq14
      have o4 : jMk md M4.2.2 q14 = some (aI 0 k (va_cpy g (fun _ => 0) 0 0 k)) := by rw [e4, va_up_self]
      have ok : jOk md (c + 2) (s + 8) M0 q tp n M (i + k) M4 := ⟨s4 _ _ b1, b2.tr s4.sq, E4.mono (by omega) (by show s + 4 + k ≤ s + 8; omega)⟩
      have iff := wCl_iff (L := L) hW kp hl
      cases b with
      | true =>
        refine jo_t (iff.mpr hb) (jo_ret (hk k true hr (some q14) M4 ?_ ok ⟨kp, k4, hl⟩))
        rw [if_pos rfl]
        refine ⟨q14, _, rfl, o4, fun j hj => ?_⟩
        unfold va_cpy
        rw [if_pos (by omega), Nat.sub_zero, Nat.zero_add, b4 j hj, ← hL]
      | false =>
        refine jo_f (fun y => by rw [iff.mp y] at hb; cases hb) (jo_ret (hk k false hr none M4 ?_ ok ⟨kp, k4, hl⟩))
        rw [if_neg (by decide)]
    have iff := wCl_iff (L := L) hW kp hl
    by_cases t3 : tk n t (i + k) = 3
    · refine jo_cl (mkg b1).2 (jo_eq ftk (jo_t (by rw [t3]; rfl) ?_))
      unfold jf_X2_word_j197 jf_X2_word_j202
      refine jo_cl (mkg b1).2 (jX_must hM b5 b1 1 (fun y => absurd y (by decide)) (fun _ => ?_))
      refine jo_cl (mkg b1).2 (jo_eq ftk (jo_f (by rw [t3]; decide +kernel) ?_))
      cases hc : wCl C L k with
      | true =>
        refine jo_t (iff.mpr hc) ?_
        unfold jf_X2_word_j221
        exact fin true hc (by rw [if_pos t3, if_pos hc])
      | false =>
        refine jo_f (fun y => by rw [iff.mp y] at hc; cases hc) ?_
        unfold jf_X2_word_j226
        exact jo_cl (mkg b1).2 (thr 0 2 rfl _ (fun qf M3 h3 => hf (2, i + k) (by rw [if_pos t3, if_neg (by rw [hc]; decide)]) qf M3 h3))
    by_cases t0 : tk n t (i + k) = 0
    · refine jo_cl (mkg b1).2 (jo_eq ftk (jo_f (show ¬ nI (tk n t (i + k)) = nI 3 by rw [nI_eq (by omega) (by omega)]; exact t3) ?_))
      refine jo_cl (mkg b1).2 (jo_eq ftk (jo_t (by rw [t0]; rfl) ?_))
      unfold jf_X2_word_j197 jf_X2_word_j202
      refine jo_cl (mkg b1).2 (jX_must hM b5 b1 1 (fun y => absurd y (by decide)) (fun _ => ?_))
      refine jo_cl (mkg b1).2 (jo_eq ftk (jo_t (by rw [t0]; rfl) ?_))
      unfold jf_X2_word_j221
      exact fin _ rfl (by rw [if_neg t3, if_pos t0])
    · refine jo_cl (mkg b1).2 (jo_eq ftk (jo_f (show ¬ nI (tk n t (i + k)) = nI 3 by rw [nI_eq (by omega) (by omega)]; exact t3) ?_))
      refine jo_cl (mkg b1).2 (jo_eq ftk (jo_f (show ¬ nI (tk n t (i + k)) = nI 0 by rw [nI_eq (by omega) (by omega)]; exact t0) ?_))
      unfold jf_X2_word_j201 jf_X2_word_j202
      exact jo_cl (mkg b1).2 (thr 0 1 rfl _ (fun qf M3 h3 => hf (1, i + k) (by rw [if_neg t3, if_neg t0]) qf M3 h3))
end WE
