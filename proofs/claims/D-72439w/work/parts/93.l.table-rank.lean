/-! PLAIN LAW, 93.l: a column more; the rank of a table: component -/
def andT (F : Nat → Nat → Int) (K : Nat) (v : Nat → Int) : Nat → Nat → Int := fun i j => if j < K then F i j else v i
/-- a run from a table with these numbers stays small, whatever stands in the last column -/
def smallA (R K' : Nat) (A : Nat → Nat → Int) : Prop := ∀ F0 : Nat → Nat → Int, (∀ x y, x < R → y < K' → F0 x y = A x y) → smallD R K' F0
section AN
variable {β : Type} {Q : β → Mem → Prop} {md : Nat → Bool} {N c s t R K : Nat} {M0 M : Mem} {F : Nat → Nat → Int}
theorem jX_cpJ {p : jm_P β} {n0 n1 n a b : Nat} {f g : Nat → Int64} {src dst : Option Nat} (hs : src = some a) (hd : dst = some b) (ha : jMk md M.2.2 a = some (aJ n0 f)) (hb : jMk md M.2.2 b = some (aJ n1 g)) (h0 : n ≤ n0) (h1 : n ≤ n1) (hn : n < 2 ^ 31) (hE : jExt md c s M0 M) (kk : ∀ M1, jMk md M1.2.2 = va_up (jMk md M.2.2) b (some (aJ n1 (va_cpy f g 0 0 n))) → jExt md c s M0 M1 → jo p M1 Q) : jo (jm_wr (jm_cpJ 2 src 0 dst 0 (nI n)) p) M Q := by
  subst hs hd
  refine jX_wr ?_ hb hE kk
  unfold jm_cpJ jm_ar
  simp only [(mkg ha).2, (mkg hb).2, if_true]
  rw [if_pos, nI_tc hn]
  · unfold jm_sto; rfl
  · rw [nI_tc hn]
    refine ⟨⟨⟨by decide, by decide⟩, nI_nn hn, ?_⟩, ?_⟩
    · show (nI 0).toNatClampNeg + n ≤ n0
      rw [nI_tc (by decide)]; omega
    · show (nI 0).toNatClampNeg + n ≤ n1
      rw [nI_tc (by decide)]; omega
theorem jx_and (hM : ∀ a, md a = true → a < M0.1) (hE : jExt md c s M0 M) (h : jTb t R K F (jMk md M.2.2)) (hR : R ≤ 50) (hK : K ≤ 50) (hN : 100 < N) {q : Nat} {g : Nat → Int64} {v : Nat → Int} (hq : jMk md M.2.2 q = some (aJ R g)) (hg : ∀ i, i < R → g i = jI (v i)) :
    jo (jf_X11_and N t (some q)) M (fun r M' => ∃ t' ar rr rf, r = some t' ∧ jTn t' ar R (K + 1) rr rf (andT F K v) (jMk md M.2.2) (jMk md M'.2.2) ∧ jExt md (c + 2 + R) (s + 3 + R + R * (K + 1)) M0 M') := by
  unfold jf_X11_and jf_X11_and_k20_69
  refine jX_al (hE.md hM) hE fun t2 M1 hn _ e1 E1 => ?_
  have s1 : jSub (jMk md M.2.2) (jMk md M1.2.2) := by rw [e1]; exact jSub.new hn
  have hm1 : jTb t R K F M1.2.2 := (h.sub s1).sub jMk.sub
  refine jT_rows hm1 (jT_cols hm1 ?_)
  rw [nI_1]
  refine jX_in11 hM E1 s1 hn (by rw [e1, va_up_self]) (by omega) (by omega) (fun M2 ar rr rf h2 E2 => ?_)
  refine jo_bd (jo_mono (jo_up R (fun i z M' => z = nI i ∧ jTn t2 ar R (K + 1) rr rf (fun x y => if x < i then andT F K v x y else 0) (jMk md M.2.2) (jMk md M'.2.2) ∧ jExt md (c + 1 + 1 + R) (s + 3 + R + R * (K + 1)) M0 M') (fun _ M' => jTn t2 ar R (K + 1) rr rf (andT F K v) (jMk md M.2.2) (jMk md M'.2.2) ∧ jExt md (c + 1 + 1 + R) (s + 3 + R + R * (K + 1)) M0 M') ?_ ?_ N 0 _ M2 ⟨rfl, h2.cg (fun x y _ _ => by rw [if_neg (by omega)]), E2.mono (Nat.le_refl _) (by show s + 3 + R + R * (K + 1) ≤ _; omega)⟩ (Nat.zero_le _) (by omega)) ?_)
  · rintro i z M' hi ⟨rfl, h', E'⟩
    have sub := h'.2.2.2.2
    obtain ⟨arA, rrA, rfA, hA⟩ := h.sub sub
    have hAm : jTbA t arA R K rrA rfA F M'.2.2 := by
      obtain ⟨a1, a2, a3, a4⟩ := hA
      exact ⟨(mkg a1).2, (mkg a2).2, fun i hi => ⟨(a3 i hi).1, (a3 i hi).2.choose, (mkg (a3 i hi).2.choose_spec.1).2, (a3 i hi).2.choose_spec.2⟩, a4⟩
    unfold jf_X11_and_L20
    refine jN_R hAm (jo_f (by rw [nI_leI (by omega) (by omega)]; omega) ?_)
    refine jN_at hAm (jN_row hAm rfl hi (by omega) (jN_at h'.md (jN_row h'.md rfl hi (by omega) (jN_K hAm ?_))))
    obtain ⟨⟨b1, b2, b3, b4⟩, n1, n2, n3, n4⟩ := id h'
    obtain ⟨r1, gg, r2, r3⟩ := b3 i hi
    obtain ⟨u1, gA, u2, u3⟩ := hA.2.2.1 i hi
    refine jX_cpJ (n0 := K) (n1 := K + 1) u1 r1 u2 r2 (Nat.le_refl _) (by omega) (by omega) E' (fun M3 e3 E3 => ?_)
    have h3 : jTn t2 ar R (K + 1) rr rf (fun x y => if x < i then andT F K v x y else if x = i ∧ y < K then F i y else 0) (jMk md M.2.2) (jMk md M3.2.2) := by
      refine ⟨⟨?_, ?_, fun x hx => ⟨(b3 x hx).1, ?_⟩, b4⟩, n1, n2, n3, ?_⟩
      · rw [e3, va_up_ne _ _ (fun y => by rw [y, r2] at b1; cases b1)]; exact b1
      · rw [e3, va_up_ne _ _ (fun y => by rw [y, r2] at b2; cases b2)]; exact b2
      · by_cases xi : x = i
        · subst xi
          refine ⟨_, by rw [e3, va_up_self], fun y hy => ?_⟩
          unfold va_cpy
          dsimp only
          rw [if_neg (Nat.lt_irrefl x)]
          by_cases yk : y < K
          · rw [if_pos (by omega), if_pos ⟨rfl, yk⟩, Nat.sub_zero, Nat.zero_add, u3 y yk]
          · rw [if_neg (by omega), if_neg (fun e => yk e.2), show gg y = jI (if x < x then andT F K v x y else 0) from r3 y hy, if_neg (Nat.lt_irrefl x)]
        · obtain ⟨_, g5, g6, g7⟩ := b3 x hx
          refine ⟨g5, ?_, fun y hy => ?_⟩
          · rw [e3, va_up_ne _ _ (fun y => xi (b4 x i hx hi y))]; exact g6
          · rw [g7 y hy]
            dsimp only
            by_cases l : x < i
            · rw [if_pos l, if_pos l]
            · rw [if_neg l, if_neg l, if_neg (fun e => xi e.1)]
      · rw [e3]; exact n4.wr (n3 i)
    refine jN_at h3.md (jN_row h3.md rfl hi (by omega) ?_)
    have hA3 : jTb t R K F M3.2.2 := (h.sub h3.2.2.2.2).sub jMk.sub
    refine jT_cols hA3 (jo_ldJ (mkg (h3.2.2.2.2 _ _ hq)).2 rfl hi (by omega) ?_)
    rw [hg i hi]
    refine jT_st h3 rfl hi (show K < K + 1 by omega) (by omega) E3 rfl (fun M4 h4 E4 => jo_ret ⟨by rw [nI_1], h4.cg (fun x y hx hy => ?_), E4⟩)
    unfold uTb
    dsimp only
    by_cases xi : x = i
    · subst xi
      rw [if_pos (show x < x + 1 by omega), if_neg (Nat.lt_irrefl x)]
      unfold andT
      by_cases yk : y < K
      · rw [if_neg (by omega), if_pos ⟨rfl, yk⟩, if_pos yk]
      · rw [if_pos (by omega), if_neg yk]
    · rw [if_neg (fun e => xi e.1)]
      by_cases l : x < i
      · rw [if_pos l, if_pos (show x < i + 1 by omega)]
      · rw [if_neg l, if_neg (fun e => xi e.1), if_neg (show ¬ x < i + 1 by omega)]
  · rintro z M' ⟨rfl, h', E'⟩
    have hA : jTb t R K F M'.2.2 := (h.sub h'.2.2.2.2).sub jMk.sub
    unfold jf_X11_and_L20
    exact jT_rows hA (jo_t (by rw [nI_leI (by omega) (by omega)]; omega) (jo_ret ⟨h'.cg (fun x y hx _ => by rw [if_pos hx]), E'⟩))
  · rintro _ M' ⟨h', E'⟩
    exact jo_ret ⟨t2, ar, rr, rf, rfl, h', E'⟩
theorem isRk_and {r : Nat} {v : Nat → Int} (h : isRk R K (andT F K v) r) : isRk R K F r := isRk_cg (fun i j _ hj => by unfold andT; rw [if_pos hj]) h
/-- the rank of a table by its diagonal -/
theorem jx_Trank (hM : ∀ a, md a = true → a < M0.1) (hE : jExt md c s M0 M) (h : jTb t R K F (jMk md M.2.2)) (hR : R ≤ 50) (hK : K ≤ 50) (hN : 1180591620717411303424 < N) (hs : smallA R K F) :
    jo (jf_X11_rank N t) M (fun r M' => (∃ k, r = nI k ∧ isRk R K F k) ∧ jSub (jMk md M.2.2) (jMk md M'.2.2) ∧ jExt md (c + 3 + R) (s + 3 + R + R + R * (K + 1)) M0 M') := by
  unfold jf_X11_rank
  refine jT_rows (h.sub jMk.sub) (jo_ck (ckL (by omega)) ?_)
  rw [nI_tc (by omega)]
  refine jX_al (hE.md hM) hE fun q M1 hq _ e1 E1 => ?_
  have s1 : jSub (jMk md M.2.2) (jMk md M1.2.2) := by rw [e1]; exact jSub.new hq
  refine jT_cl ((h.sub s1).sub jMk.sub) (jo_bd (jo_mono (jx_and (v := fun _ => 0) hM E1 (h.sub s1) hR hK (by omega) (g := fun _ => 0) (by rw [e1, va_up_self]) (fun _ _ => rfl)) ?_))
  rintro r M2 ⟨t2, ar, rr, rf, rfl, h2, E2⟩
  refine jN_cl h2.md (jo_bd (jo_mono (jx_diag hR hK hN (hs _ (fun x y _ hy => by unfold andT; rw [if_pos hy])) h2 E2) ?_))
  rintro r M3 ⟨k, G, rr3, rf3, rfl, k1, k2, k3, k4, h3, E3⟩
  exact jo_ret ⟨⟨k, rfl, isRk_and (rch_rank k3 k1 k2 k4)⟩, s1.tr h3.2.2.2.2, E3.mono (by omega) (by show s + R + 3 + R + R * (K + 1) ≤ _; omega)⟩
end AN
