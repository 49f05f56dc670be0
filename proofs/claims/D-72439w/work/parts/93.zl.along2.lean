/-! PLAIN LAW, 93.zl: along: what is taken of each column, the fractions: component -/
/-- the array q holds the fractions f, the first i of them -/
def jQsP (q n i : Nat) (f : Nat → Rat) (H : HM) : Prop := ∃ g, H q = some (aR 11 n g) ∧ ∀ e, e < i → ∃ a, g e = some a ∧ H a = some (jFr (f e))
def alR (C : CX) (B X : Nat → Nat → Int) : Nat → Int := fun j => jsum (cE C) (fun e => B e j * X e 0 * ptW C e)
def alA (n : Nat) (B Gm : Nat → Nat → Int) (Rv : Nat → Int) : Nat → Int := fun e => jsum n (fun k => B e k * mn n (cwd Gm k Rv))
section AM
variable {β : Type} {Q : β → Mem → Prop} {md : Nat → Bool} {N c s R K K' n : Nat} {M0 M : Mem} {F G : Nat → Nat → Int} {C : CX}
theorem jQsP.sub {q i : Nat} {f : Nat → Rat} {H H' : HM} (h : jQsP q n i f H) (hs : jSub H H') : jQsP q n i f H' := by
  obtain ⟨g, h1, h2⟩ := h
  refine ⟨g, hs _ _ h1, fun e he => ?_⟩
  obtain ⟨a, a1, a2⟩ := h2 e he
  exact ⟨a, a1, hs _ _ a2⟩
theorem fit12 {H : Mem} {b : Nat} {r : Rat} (h : H.2.2 b = some (jFr r)) : jm_fit [12] none (some b) H = true := by
  unfold jFr at h
  unfold jm_fit
  simp only [h]
  rfl
theorem jQsP_st {p : jm_P β} {H0 : HM} {q i b : Nat} {f : Nat → Rat} (h : jQsP q n i f (jMk md M.2.2)) (hb : jMk md M.2.2 b = some (jFr (f i))) (hs : jSub H0 (jMk md M.2.2)) (h0 : H0 q = none) (hi : i < n) (hn : n < 2 ^ 31) (hE : jExt md c s M0 M) (kk : ∀ M1, jQsP q n (i + 1) f (jMk md M1.2.2) → jSub H0 (jMk md M1.2.2) → jExt md c s M0 M1 → jo p M1 Q) : jo (jm_wr (jm_stR 11 [12] none (some q) (nI i) (some b)) p) M Q := by
  obtain ⟨g, h1, h2⟩ := h
  refine jX_stR h1 rfl hi hn (fit12 (mkg hb).2) hE (fun M1 e1 E1 => kk M1 ⟨va_up g i (some b), by rw [e1, va_up_self], fun e he => ?_⟩ (by rw [e1]; exact hs.wr h0) E1)
  have ne : ∀ a r, jMk md M.2.2 a = some (jFr r) → a ≠ q := by
    rintro a r ha rfl
    rw [ha] at h1
    unfold jFr at h1
    cases h1
  by_cases c1 : e = i
  · subst c1
    exact ⟨b, by rw [va_up_self], by rw [e1, va_up_ne _ _ (ne b _ hb)]; exact hb⟩
  · obtain ⟨a, a1, a2⟩ := h2 e (by omega)
    exact ⟨a, by rw [va_up_ne _ _ c1]; exact a1, by rw [e1, va_up_ne _ _ (ne a _ a2)]; exact a2⟩
theorem jx_alSolve {H0 : HM} {a tb tx tg qa : Nat} {B X Gm : Nat → Nat → Int} {Dc : Int64} (h : jCx a C H0) (hW : jWf C) (hb : jTb tb (cE C) n B H0) (hx : jTb tx (cE C) 1 X H0) (hg : jTb tg n n Gm H0) (hn : n ≤ 4) (hN : 100 < N) (hM : ∀ a, md a = true → a < M0.1) (h0 : H0 qa = none) (hq : jRow qa (cE C) (fun _ => 0) (jMk md M.2.2)) (hs : jSub H0 (jMk md M.2.2)) (hE : jExt md c s M0 M) (hG : ∀ i j, i < n → j < n → (Gm i j).natAbs ≤ 324) (hR : ∀ j, j < n → (alR C B X j).natAbs ≤ 324) :
    jo (jm_it (fun z => jf_X9_along_L180 N a (some tb) (some tx) (some tg) Dc (some qa) z) N (0 : Int32)) M (fun _ M' => jRow qa (cE C) (alA n B Gm (alR C B X)) (jMk md M'.2.2) ∧ jSub H0 (jMk md M'.2.2) ∧ jExt md (c + 80) (s + 320) M0 M') := by
  have h6 := hW.2.1
  have nn : n * n ≤ 4 * 4 := Nat.mul_le_mul hn hn
  refine jo_mono (jo_up n (fun k z M' => z = nI k ∧ jRow qa (cE C) (fun e => jsum k (fun k => B e k * mn n (cwd Gm k (alR C B X)))) (jMk md M'.2.2) ∧ jSub H0 (jMk md M'.2.2) ∧ jExt md (c + 20 * k) (s + 80 * k) M0 M') (fun _ M' => jRow qa (cE C) (alA n B Gm (alR C B X)) (jMk md M'.2.2) ∧ jSub H0 (jMk md M'.2.2) ∧ jExt md (c + 80) (s + 320) M0 M') ?_ ?_ N 0 _ M ⟨rfl, hq, hs, hE⟩ (Nat.zero_le _) (by omega)) (fun _ _ h => h)
  · rintro k z M1 hk ⟨rfl, q1, s1, E1⟩
    have hB : ∀ M2 : Mem, jSub H0 (jMk md M2.2.2) → jTb tb (cE C) n B M2.2.2 := fun M2 s2 => (hb.sub s2).sub jMk.sub
    unfold jf_X9_along_L180 jf_X9_along_k200_238 jf_X9_along_k248_286
    refine jT_cols (hB M1 s1) (jo_f (by rw [nI_leI (by omega) (by omega)]; omega) (jT_cl ((hg.sub s1).sub jMk.sub) ?_))
    refine jo_bd (jo_mono (jx_like hM E1 (hg.sub s1) (by omega) (by omega) hN) ?_)
    rintro r M2 ⟨t, ar, rr, rf, rfl, h2, E2⟩
    refine jo_bd (jo_mono (jo_up n (fun j z M' => z = nI j ∧ jTn t ar n n rr rf (fun x y => if y = k ∧ x < j then alR C B X x else Gm x y) (jMk md M1.2.2) (jMk md M'.2.2) ∧ jExt md (c + 20 * k + 2 + n + n) (s + 80 * k + 3 + n + n * n + n * n) M0 M') (fun _ M' => jTn t ar n n rr rf (cwd Gm k (alR C B X)) (jMk md M1.2.2) (jMk md M'.2.2) ∧ jExt md (c + 20 * k + 2 + n + n) (s + 80 * k + 3 + n + n * n + n * n) M0 M') ?_ ?_ N 0 _ M2 ⟨rfl, h2.cg (fun x y _ _ => by rw [if_neg (by omega)]), E2⟩ (Nat.zero_le _) (by omega)) ?_)
    · rintro j z M3 hj ⟨rfl, h3, E3⟩
      have s3 := s1.tr h3.2.2.2.2
      have hC : jCx a C M3.2.2 := (h.kp s3.kp).kp jMk.sub.kp
      obtain ⟨va, ha⟩ := hC.ob
      unfold jf_X9_along_L200
      refine jT_cols (hB M3 s3) (jo_f (by rw [nI_leI (by omega) (by omega)]; omega) ?_)
      refine jN_at h3.md (jN_row h3.md rfl hj (by omega) (jo_cl ha (jo_eq (jx_product (k := 0) hC hW (hB M3 s3) ((hx.sub s3).sub jMk.sub) hj (by decide) (by omega) (by decide) hN) ?_)))
      refine jT_st h3 rfl hj hk (by omega) E3 rfl (fun M4 h4 E4 => jo_ret ⟨by rw [nI_1], h4.cg (fun x y hx hy => ?_), E4⟩)
      unfold uTb
      dsimp only
      by_cases y1 : x = j ∧ y = k
      · rw [if_pos y1, if_pos ⟨y1.2, by omega⟩, y1.1]; rfl
      · rw [if_neg y1]
        by_cases y2 : y = k ∧ x < j
        · rw [if_pos y2, if_pos (by omega)]
        · rw [if_neg y2, if_neg (by omega)]
    · rintro z M3 ⟨rfl, h3, E3⟩
      have s3 := s1.tr h3.2.2.2.2
      unfold jf_X9_along_L200
      refine jT_cols (hB M3 s3) (jo_t (by rw [nI_leI (by omega) (by omega)]; omega) (jo_ret ⟨h3.cg (fun x y hx hy => ?_), E3⟩))
      unfold cwd
      by_cases y2 : y = k
      · rw [if_pos ⟨y2, hx⟩, if_pos y2]
      · rw [if_neg (fun u => y2 u.1), if_neg y2]
    · rintro _ M3 ⟨h3, E3⟩
      have s3 := s1.tr h3.2.2.2.2
      refine jN_cl h3.md (jo_bd (jo_mono (jx_det (Mx := 324) hM E3 h3.tb (by omega) hN (fun i j hi hj => ?_) (jBd_pt n hn)) ?_))
      · unfold cwd
        split
        · exact hR i hi
        · exact hG i j hi hj
      · rintro r M4 ⟨rfl, s4, E4⟩
        have s34 := s3.tr s4
        have q4 : jRow qa (cE C) (fun e => jsum k (fun k => B e k * mn n (cwd Gm k (alR C B X)))) (jMk md M4.2.2) := by
          obtain ⟨g, g1, g2⟩ := q1
          exact ⟨g, (h3.2.2.2.2.tr s4) _ _ g1, g2⟩
        refine jo_bd (jo_mono (jo_up (cE C) (fun e z M' => z = nI e ∧ jRow qa (cE C) (fun x => if x < e then jsum (k + 1) (fun k => B x k * mn n (cwd Gm k (alR C B X))) else jsum k (fun k => B x k * mn n (cwd Gm k (alR C B X)))) (jMk md M'.2.2) ∧ jSub H0 (jMk md M'.2.2) ∧ jExt md (c + 20 * (k + 1)) (s + 80 * (k + 1)) M0 M') (fun _ M' => jRow qa (cE C) (fun x => jsum (k + 1) (fun k => B x k * mn n (cwd Gm k (alR C B X)))) (jMk md M'.2.2) ∧ jSub H0 (jMk md M'.2.2) ∧ jExt md (c + 20 * (k + 1)) (s + 80 * (k + 1)) M0 M') ?_ ?_ N 0 _ M4 ⟨rfl, q4.cg (fun x _ => by rw [if_neg (Nat.not_lt_zero x)]), s34, E4.mono (by omega) (by omega)⟩ (Nat.zero_le _) (by omega)) ?_)
        · rintro e z M5 he ⟨rfl, q5, s5, E5⟩
          have hC : jCx a C M5.2.2 := (h.kp s5.kp).kp jMk.sub.kp
          unfold jf_X9_along_L248
          refine jx_nE hC (jo_f (by rw [nI_leI (by omega) (by omega)]; omega) ?_)
          refine jRow_ld q5.ml rfl he (by omega) (jT_at (hB M5 s5) rfl rfl he hk (by omega) (by omega) ?_)
          rw [jI_mul, jI_add]
          refine jRow_st q5 s5 h0 rfl he (by omega) E5 rfl (fun M6 q6 s6 E6 => jo_ret ⟨by rw [nI_1], q6.cg (fun x _ => ?_), s6, E6⟩)
          unfold upI
          by_cases xe : x = e
          · subst xe
            rw [if_pos rfl, if_neg (Nat.lt_irrefl x), if_pos (Nat.lt_succ_self x), ds_succ]
          · rw [if_neg xe]
            dsimp only
            by_cases xl : x < e
            · rw [if_pos xl, if_pos (by omega)]
            · rw [if_neg xl, if_neg (by omega)]
        · rintro z M5 ⟨rfl, q5, s5, E5⟩
          have hC : jCx a C M5.2.2 := (h.kp s5.kp).kp jMk.sub.kp
          unfold jf_X9_along_L248
          exact jx_nE hC (jo_t (by rw [nI_leI (by omega) (by omega)]; omega) (jo_ret ⟨q5.cg (fun x hx => by rw [if_pos hx]), s5, E5⟩))
        · rintro _ M5 ⟨q5, s5, E5⟩
          exact jo_ret ⟨by rw [nI_1], q5, s5, E5⟩
  · rintro z M1 ⟨rfl, q1, s1, E1⟩
    unfold jf_X9_along_L180
    exact jT_cols ((hb.sub s1).sub jMk.sub) (jo_t (by rw [nI_leI (by omega) (by omega)]; omega) (jo_ret ⟨q1, s1, E1.mono (by omega) (by omega)⟩))
/-- the fractions -/
theorem jx_alFr {a qa : Nat} {A : Nat → Int} {D : Int} (h : jCx a C (jMk md M.2.2)) (hW : jWf C) (hN : 9223372036854775808 < N) (hM : ∀ a, md a = true → a < M0.1) (hq : jRow qa (cE C) A (jMk md M.2.2)) (hE : jExt md c s M0 M) (hA : ∀ e, e < cE C → (A e).natAbs < 9223372036854775808) (hD : D.natAbs < 9223372036854775808) (d0 : D ≠ 0) :
    jo (jf_X9_along_k180_292 N a (jI D) (some qa)) M (jNew md (c + 7) (s + 18) M0 M (fun q H => jQsP q (cE C) (cE C) (fun e => Rat.divInt (A e) D) H)) := by
  have h6 := hW.2.1
  unfold jf_X9_along_k180_292 jf_X9_along_k305_340
  refine jx_nE (h.kp jMk.sub.kp) (jo_ck (ckL (by omega)) ?_)
  rw [nI_tc (by omega)]
  refine jX_al (hE.md hM) hE fun q M1 hn _ e1 E1 => ?_
  have s1 : jSub (jMk md M.2.2) (jMk md M1.2.2) := by rw [e1]; exact jSub.new hn
  refine jo_bd (jo_mono (jo_up (cE C) (fun i z M' => z = nI i ∧ jQsP q (cE C) i (fun e => Rat.divInt (A e) D) (jMk md M'.2.2) ∧ jSub (jMk md M.2.2) (jMk md M'.2.2) ∧ jExt md (c + 1 + i) (s + 6 + 2 * i) M0 M') (fun _ M' => jQsP q (cE C) (cE C) (fun e => Rat.divInt (A e) D) (jMk md M'.2.2) ∧ jSub (jMk md M.2.2) (jMk md M'.2.2) ∧ jExt md (c + 7) (s + 18) M0 M') ?_ ?_ N 0 _ M1 ⟨rfl, ⟨_, by rw [e1, va_up_self], fun e he => absurd he (Nat.not_lt_zero e)⟩, s1, E1.mono (by omega) (by show s + cE C ≤ _; omega)⟩ (Nat.zero_le _) (by omega)) ?_)
  · rintro i z M2 hi ⟨rfl, q2, s2, E2⟩
    have hC : jCx a C M2.2.2 := (h.kp s2.kp).kp jMk.sub.kp
    have hr : jRow qa (cE C) A (jMk md M2.2.2) := by
      obtain ⟨g, g1, g2⟩ := hq
      exact ⟨g, s2 _ _ g1, g2⟩
    unfold jf_X9_along_L305
    refine jx_nE hC (jo_f (by rw [nI_leI (by omega) (by omega)]; omega) ?_)
    refine jX_al (E2.md hM) E2 fun b M3 hb _ e3 E3 => ?_
    have s3 : jSub (jMk md M2.2.2) (jMk md M3.2.2) := by rw [e3]; exact jSub.new hb
    have hr3 : jRow qa (cE C) A (jMk md M3.2.2) := by
      obtain ⟨g, g1, g2⟩ := hr
      exact ⟨g, s3 _ _ g1, g2⟩
    refine jRow_ld hr3.ml rfl hi (by omega) ?_
    refine jX_in12 (by rw [e3, va_up_self]) (hA i hi) hD d0 hN E3 (fun M4 e4 E4 => ?_)
    have s4 : jSub (jMk md M2.2.2) (jMk md M4.2.2) := by rw [e4, e3, va_up2]; exact jSub.new hb
    refine jQsP_st (q2.sub s4) (by rw [e4, va_up_self]) (s2.tr s4) hn hi (by omega) E4 (fun M5 q5 s5 E5 => jo_ret ⟨by rw [nI_1], q5, s5, E5.mono (by omega) (by show s + 6 + 2 * i + 2 ≤ _; omega)⟩)
  · rintro z M2 ⟨rfl, q2, s2, E2⟩
    have hC : jCx a C M2.2.2 := (h.kp s2.kp).kp jMk.sub.kp
    unfold jf_X9_along_L305
    exact jx_nE hC (jo_t (by rw [nI_leI (by omega) (by omega)]; omega) (jo_ret ⟨q2, s2, E2.mono (by omega) (by omega)⟩))
  · rintro _ M2 ⟨q2, s2, E2⟩
    exact jo_ret ⟨q, rfl, s2, E2, q2⟩
end AM
