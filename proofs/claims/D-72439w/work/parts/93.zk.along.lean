/-! PLAIN LAW, 93.zk: along: products, the independent columns, their table of products: component -/
section AL
variable {β : Type} {Q : β → Mem → Prop} {md : Nat → Bool} {N c s R K K' : Nat} {M0 M : Mem} {F G : Nat → Nat → Int} {C : CX}
theorem jx_nE {a : Nat} {p : Int32 → jm_P β} (h : jCx a C M.2.2) (kk : jo (p (nI (cE C))) M Q) : jo (jm_rd (jm_fR [9] 1 (some a)) fun x => jm_rd (jm_len 4 x) p) M Q := by
  obtain ⟨eA, fA, cA, h1, ⟨er, b1, b2⟩, -⟩ := h
  exact jo_fR h1 (by decide) rfl (jo_len b1 rfl kk)
theorem jx_product {a t t' j k : Nat} (h : jCx a C M.2.2) (hW : jWf C) (ht : jTb t (cE C) K F M.2.2) (ht' : jTb t' (cE C) K' G M.2.2) (hj : j < K) (hk : k < K') (hK : K ≤ 50) (hK' : K' ≤ 50) (hN : 100 < N) : (jf_X9_product N a (some t) (nI j) (some t') (nI k)).1 M = some (jI (jsum (cE C) (fun e => F e j * G e k * ptW C e)), M) := by
  have h6 := hW.2.1
  refine jo_out ?_
  unfold jf_X9_product jf_X9_product_k6_62
  refine jo_bd (jo_mono (jo_up (cE C) (fun i z M' => M' = M ∧ z = (jI (jsum i (fun e => F e j * G e k * ptW C e)), nI i)) (fun r M' => M' = M ∧ r = jI (jsum (cE C) (fun e => F e j * G e k * ptW C e))) ?_ ?_ N 0 _ M ⟨rfl, rfl⟩ (Nat.zero_le _) (by omega)) ?_)
  · rintro i z M' hi ⟨rfl, rfl⟩
    have w := hW.2.2.2.1 i hi
    unfold jf_X9_product_L6
    refine jx_nE h (jo_f (by rw [nI_leI (by omega) (by omega)]; omega) ?_)
    refine jT_at ht rfl rfl hi hj (by omega) (by omega) (jT_at ht' rfl rfl hi hk (by omega) (by omega) (jx_ed h hW hi fun b hb => jo_fI hb (mem_56 _ _) rfl (jo_ck ?_ (jo_ret ⟨rfl, ?_⟩))))
    · show ¬ nI (cEd C i 2) = nI 0
      rw [nI_eq (by omega) (by omega)]; omega
    · have e6 : ((6 : Int32) / nI (cEd C i 2)).toInt64 = jI (ptW C i) := by
        unfold ptW
        rcases (show cEd C i 2 = 1 ∨ cEd C i 2 = 2 ∨ cEd C i 2 = 3 by omega) with q | q | q <;> (rw [q]; decide)
      rw [e6, jI_mul, jI_mul, jI_add, nI_1]
      rfl
  · rintro z M' ⟨rfl, rfl⟩
    unfold jf_X9_product_L6
    exact jx_nE h (jo_t (by rw [nI_leI (by omega) (by omega)]; omega) (jo_ret ⟨rfl, rfl⟩))
  · rintro r M1 ⟨rfl, rfl⟩
    exact jo_ret ⟨rfl, rfl⟩
theorem set_or : ∀ k, k < 6 → ∀ s, s < 2 ^ k → nI s ||| ((1 : Int32) <<< (nI k &&& 31)) = nI (s ||| 2 ^ k) := by decide +kernel
theorem set_or0 : ∀ s, s < 64 → nI s ||| (0 : Int32) = nI s := by decide +kernel
theorem gS_succ {R k : Nat} {F : Nat → Nat → Int} : gS R F (k + 1) = @ite Nat (rkN R (sN (gS R F k ||| 2 ^ k)) (smT F (gS R F k ||| 2 ^ k)) = sN (gS R F k ||| 2 ^ k)) (Classical.propDecidable _) (gS R F k ||| 2 ^ k) (gS R F k) := rfl
/-- all tables of some columns stay small -/
def jSmK (R K : Nat) (F : Nat → Nat → Int) : Prop := ∀ s, s < 2 ^ K → smallA R (sN s) (smT F s)
theorem jx_alSet (hM : ∀ a, md a = true → a < M0.1) (hE : jExt md c s M0 M) {a t : Nat} {v2 : Int32} (ht : jTb t R K F (jMk md M.2.2)) (hR : R ≤ 6) (hK : K ≤ 5) (hS : jSmK R K F) (hN : 1180591620717411303424 < N) :
    jo (jm_it (fun z => jf_X9_along_L5 N a (some t) v2 z.1 z.2) N ((0 : Int32), (0 : Int32))) M (fun r M' => r = nI (gS R F K) ∧ jSub (jMk md M.2.2) (jMk md M'.2.2) ∧ jExt md (c + 90) (s + 500) M0 M') := by
  refine jo_mono (jo_up K (fun i z M' => z = (nI (gS R F i), nI i) ∧ jSub (jMk md M.2.2) (jMk md M'.2.2) ∧ jExt md (c + 18 * i) (s + 100 * i) M0 M') (fun r M' => r = nI (gS R F K) ∧ jSub (jMk md M.2.2) (jMk md M'.2.2) ∧ jExt md (c + 90) (s + 500) M0 M') ?_ ?_ N 0 _ M ⟨rfl, jSub.rf, hE⟩ (Nat.zero_le _) (by omega)) (fun _ _ h => h)
  · rintro i z M1 hi ⟨rfl, s1, E1⟩
    have gl := gS_lt (R := R) (F := F) i (by omega)
    have hT := ht.sub s1
    obtain ⟨n1, n2⟩ := sN_or i (by omega) _ gl
    have p5 : 2 ^ (i + 1) ≤ 2 ^ K := Nat.pow_le_pow_right (by decide) (by omega)
    have p6 : 2 ^ K ≤ 2 ^ 5 := Nat.pow_le_pow_right (by decide) hK
    have g64 : gS R F i < 64 := by
      have : 2 ^ i ≤ 2 ^ 5 := Nat.pow_le_pow_right (by decide) (by omega)
      omega
    have hb : gS R F i ||| 2 ^ i < 2 ^ K := by omega
    have k5 : sN (gS R F i ||| 2 ^ i) ≤ K := sN_K _ (by omega) _ hb
    have rk : R * (sN (gS R F i ||| 2 ^ i) + 1) ≤ 6 * 6 := Nat.mul_le_mul hR (by omega)
    have rk' : R * sN (gS R F i ||| 2 ^ i) ≤ 6 * 5 := Nat.mul_le_mul hR (by omega)
    unfold jf_X9_along_L5
    refine jT_cols (hT.sub jMk.sub) (jo_f (by rw [nI_leI (by omega) (by omega)]; omega) (jT_cl (hT.sub jMk.sub) ?_))
    rw [set_or i (by omega) _ gl]
    refine jo_bd (jo_mono (jx_some hM E1 hT (by omega) (by omega) (by omega) hb) ?_)
    rintro r M2 ⟨t2, ar, rr, rf, rfl, h2, E2⟩
    refine jN_cl h2.md (jo_bd (jo_mono (jx_Trank hM E2 h2.tb (by omega) (by omega) hN (hS _ hb)) ?_))
    rintro r M3 ⟨⟨q, rfl, hq⟩, s3, E3⟩
    have hqq := rkN_eq hq
    have q1 := hq.2.1
    refine jo_eq (jx_bits g64) ?_
    have s13 := s1.tr (h2.2.2.2.2.tr s3)
    unfold jf_X9_along_j43
    by_cases c1 : q ≤ sN (gS R F i)
    · refine jo_t (by rw [nI_leI (by omega) (by omega)]; exact c1) (jo_ret ⟨?_, s13, E3.mono (by omega) (by omega)⟩)
      rw [set_or0 _ g64, nI_1]
      have : gS R F (i + 1) = gS R F i := by
        rw [gS_succ, if_neg (by omega)]
      rw [this]
    · refine jo_f (by rw [nI_leI (by omega) (by omega)]; exact c1) (jo_ret ⟨?_, s13, E3.mono (by omega) (by omega)⟩)
      rw [set_or i (by omega) _ gl, nI_1]
      have : gS R F (i + 1) = gS R F i ||| 2 ^ i := by
        rw [gS_succ, if_pos (by omega)]
      rw [this]
  · rintro z M1 ⟨rfl, s1, E1⟩
    have hT := ht.sub s1
    unfold jf_X9_along_L5
    exact jT_cols (hT.sub jMk.sub) (jo_t (by rw [nI_leI (by omega) (by omega)]; omega) (jo_ret ⟨rfl, s1, E1.mono (by omega) (by omega)⟩))
/-- the products of columns -/
def alG (C : CX) (B : Nat → Nat → Int) : Nat → Nat → Int := fun j k => jsum (cE C) (fun e => B e j * B e k * ptW C e)
theorem jx_alGram {H0 : HM} {a tb n tg ar : Nat} {rr : Nat → Nat} {rf : Nat → Option Nat} {B : Nat → Nat → Int} {v5 : Option Nat} (h : jCx a C H0) (hW : jWf C) (hb : jTb tb (cE C) n B H0) (hn : n ≤ 5) (hN : 100 < N) (hg : jTn tg ar n n rr rf (fun _ _ => 0) H0 (jMk md M.2.2)) (hE : jExt md c s M0 M) :
    jo (jm_it (fun z => jf_X9_along_L103 N a (some tb) v5 (some tg) z) N (0 : Int32)) M (fun _ M' => jTn tg ar n n rr rf (alG C B) H0 (jMk md M'.2.2) ∧ jExt md c s M0 M') := by
  refine jo_mono (jo_up n (fun i z M' => z = nI i ∧ jTn tg ar n n rr rf (fun x y => if x < i then alG C B x y else 0) H0 (jMk md M'.2.2) ∧ jExt md c s M0 M') (fun _ M' => jTn tg ar n n rr rf (alG C B) H0 (jMk md M'.2.2) ∧ jExt md c s M0 M') ?_ ?_ N 0 _ M ⟨rfl, hg.cg (fun x y _ _ => by rw [if_neg (Nat.not_lt_zero x)]), hE⟩ (Nat.zero_le _) (by omega)) (fun _ _ h => h)
  · rintro i z M1 hi ⟨rfl, h1, E1⟩
    have hB1 : jTb tb (cE C) n B M1.2.2 := (hb.sub h1.2.2.2.2).sub jMk.sub
    unfold jf_X9_along_L103 jf_X9_along_k116_155
    refine jT_cols hB1 (jo_f (by rw [nI_leI (by omega) (by omega)]; omega) ?_)
    refine jo_bd (jo_mono (jo_up n (fun k z M' => z = nI k ∧ jTn tg ar n n rr rf (fun x y => if x < i ∨ (x = i ∧ y < k) then alG C B x y else 0) H0 (jMk md M'.2.2) ∧ jExt md c s M0 M') (fun _ M' => jTn tg ar n n rr rf (fun x y => if x < i + 1 then alG C B x y else 0) H0 (jMk md M'.2.2) ∧ jExt md c s M0 M') ?_ ?_ N 0 _ M1 ⟨rfl, h1.cg (fun x y _ _ => ?_), E1⟩ (Nat.zero_le _) (by omega)) ?_)
    · rintro k z M2 hk ⟨rfl, h2, E2⟩
      have hB2 : jTb tb (cE C) n B M2.2.2 := (hb.sub h2.2.2.2.2).sub jMk.sub
      have hC2 : jCx a C M2.2.2 := (h.kp h2.2.2.2.2.kp).kp jMk.sub.kp
      obtain ⟨va, ha⟩ := hC2.ob
      unfold jf_X9_along_L116
      refine jT_cols hB2 (jo_f (by rw [nI_leI (by omega) (by omega)]; omega) ?_)
      refine jN_at h2.md (jN_row h2.md rfl hi (by omega) (jo_cl ha (jo_eq (jx_product hC2 hW hB2 hB2 hi hk (by omega) (by omega) hN) ?_)))
      refine jT_st h2 rfl hi hk (by omega) E2 rfl (fun M3 h3 E3 => jo_ret ⟨by rw [nI_1], h3.cg (fun x y hx hy => ?_), E3⟩)
      unfold uTb
      dsimp only
      by_cases y1 : x = i ∧ y = k
      · rw [if_pos y1, if_pos (.inr ⟨y1.1, by omega⟩), y1.1, y1.2]; rfl
      · rw [if_neg y1]
        by_cases y2 : x < i ∨ (x = i ∧ y < k)
        · rw [if_pos y2, if_pos (by omega)]
        · rw [if_neg y2, if_neg (by omega)]
    · rintro z M2 ⟨rfl, h2, E2⟩
      have hB2 : jTb tb (cE C) n B M2.2.2 := (hb.sub h2.2.2.2.2).sub jMk.sub
      unfold jf_X9_along_L116
      refine jT_cols hB2 (jo_t (by rw [nI_leI (by omega) (by omega)]; omega) (jo_ret ⟨h2.cg (fun x y hx hy => ?_), E2⟩))
      by_cases y2 : x < i ∨ (x = i ∧ y < n)
      · rw [if_pos y2, if_pos (by omega)]
      · rw [if_neg y2, if_neg (by omega)]
    · by_cases y2 : x < i
      · rw [if_pos y2, if_pos (.inl y2)]
      · rw [if_neg y2, if_neg (by omega)]
    · rintro _ M2 ⟨h2, E2⟩
      exact jo_ret ⟨by rw [nI_1], h2, E2⟩
  · rintro z M1 ⟨rfl, h1, E1⟩
    have hB1 : jTb tb (cE C) n B M1.2.2 := (hb.sub h1.2.2.2.2).sub jMk.sub
    unfold jf_X9_along_L103
    exact jT_cols hB1 (jo_t (by rw [nI_leI (by omega) (by omega)]; omega) (jo_ret ⟨h1.cg (fun x y hx hy => by rw [if_pos hx]), E1⟩))
end AL
