/-! PLAIN LAW, 93.za: the determinant of a table: component -/
section TD
variable {β : Type} {Q : β → Mem → Prop} {md : Nat → Bool} {N c s t ar n : Nat} {M0 M : Mem} {rr : Nat → Nat} {rf : Nat → Option Nat} {H0 : HM} {F : Nat → Nat → Int}
def dOnT (n k : Nat) (F T : Nat → Nat → Int) : Prop := ∀ i j, k ≤ i → i < n → k ≤ j → j < n → F i j = T i j
theorem jx_detRow {a0 k : Nat} {B G : Nat → Nat → Int} (hn : n ≤ 50) (hN : 100 < N) (hz : ∀ m, 1 ≤ m → m ≤ k → mn m B ≠ 0) {Mx : Nat} (hB : ∀ i j, i < n → j < n → (B i j).natAbs ≤ Mx) (hb : jBd n Mx) (hk : k + 1 < n) {i : Nat} (hi : k < i) (hi2 : i < n) {sg : Int64} {F9 : Nat → Nat → Int} (h0 : jTb a0 n n F9 H0) (h : jTn t ar n n rr rf G H0 (jMk md M.2.2)) (hE : jExt md c s M0 M) (hg1 : ∀ a b, k < a → a < i → k < b → b < n → G a b = bm (k + 1) B a b) (hg2 : ∀ a b, k ≤ a → a < n → k ≤ b → b < n → (a = k ∨ b = k ∨ i ≤ a) → G a b = bm k B a b) :
    jo (jm_it (fun z => jf_X11_determinant_L110 N a0 (some t) (jI (mn k B)) sg (nI k) (nI i) z) N (nI k + (1 : Int32))) M (fun _ M' => ∃ G', jTn t ar n n rr rf G' H0 (jMk md M'.2.2) ∧ jExt md c s M0 M' ∧ (∀ a b, k < a → a < i + 1 → k < b → b < n → G' a b = bm (k + 1) B a b) ∧ ∀ a b, k ≤ a → a < n → k ≤ b → b < n → (a = k ∨ b = k ∨ i + 1 ≤ a) → G' a b = bm k B a b) := by
  rw [nI_1]
  refine jo_mono (jo_up n (fun j z M' => z = nI j ∧ k < j ∧ jTn t ar n n rr rf (fun a b => if a = i ∧ k < b ∧ b < j then bm (k + 1) B a b else G a b) H0 (jMk md M'.2.2) ∧ jExt md c s M0 M') (fun _ M' => jTn t ar n n rr rf (fun a b => if a = i ∧ k < b ∧ b < n then bm (k + 1) B a b else G a b) H0 (jMk md M'.2.2) ∧ jExt md c s M0 M') ?_ ?_ N (k + 1) _ M ⟨rfl, by omega, h.cg (fun a b _ _ => by rw [if_neg (by omega)]), hE⟩ (by omega) (by omega)) ?_
  · rintro j z M' hj ⟨rfl, jk, h', E'⟩
    have hA : jTb a0 n n F9 M'.2.2 := (h0.sub h'.2.2.2.2).sub jMk.sub
    have hm := h'.md
    unfold jf_X11_determinant_L110
    refine jT_rows hA (jo_f (by rw [nI_leI (by omega) (by omega)]; omega) ?_)
    refine jN_at hm (jN_row hm rfl hi2 (by omega) (jN_at hm (jN_row hm rfl hi2 (by omega) (jN_ld hm rfl hi2 hj (by omega) ?_))))
    refine jN_at hm (jN_row hm rfl (show k < n by omega) (by omega) (jN_ld hm rfl (show k < n by omega) (show k < n by omega) (by omega) ?_))
    refine jN_at hm (jN_row hm rfl hi2 (by omega) (jN_ld hm rfl hi2 (show k < n by omega) (by omega) ?_))
    refine jN_at hm (jN_row hm rfl (show k < n by omega) (by omega) (jN_ld hm rfl (show k < n by omega) hj (by omega) ?_))
    have w := fun a b (ha : a < n) (hb : b < n) => bm_abs (k := k) (i := a) (j := b) hB (by omega) ha hb
    have bz := hb.1 k hk
    have lz : -9223372036854775808 ≤ mn k B ∧ mn k B < 9223372036854775808 := by
      by_cases c : k = 0
      · subst c; exact ⟨by show _ ≤ (1 : Int); omega, by show (1 : Int) < _; omega⟩
      · obtain ⟨k', rfl⟩ : ∃ q, k = q + 1 := ⟨k - 1, by omega⟩
        rw [← bm_last]
        exact rg_of (bm_abs (k := k') hB (by omega) (by omega) (by omega)) (hb.2 k' (by omega))
    have l0 : mn k B ≠ 0 := by
      by_cases c : k = 0
      · subst c; intro e; cases e
      · exact hz k (by omega) (Nat.le_refl _)
    rw [if_neg (by omega), if_neg (by omega), if_neg (by omega), if_neg (by omega)]
    rw [hg2 i j (by omega) hi2 (by omega) hj (by omega), hg2 k k (by omega) (by omega) (by omega) (by omega) (by omega), hg2 i k (by omega) hi2 (by omega) (by omega) (by omega), hg2 k j (by omega) (by omega) (by omega) hj (by omega)]
    refine jo_ck (by rw [jI_0 lz]; exact l0) ?_
    refine jT_st h' rfl hi2 hj (by omega) E' (z := bm (k + 1) B i j) ?_ (fun M1 h1 E1 => jo_ret ⟨by rw [nI_1], by omega, h1.cg (fun a b ha hb => ?_), E1⟩)
    · rw [jI_mul, jI_mul, jI_sub, jI_tdv (prod_rg (w i j hi2 hj) (w k k (by omega) (by omega)) (w i k hi2 (by omega)) (w k j (by omega) hj) bz) lz, bm_step hz (by omega) (by omega)]
    · unfold uTb
      dsimp only
      by_cases c : a = i ∧ b = j
      · rw [if_pos c, if_pos (by omega), c.1, c.2]
      · rw [if_neg c]
        by_cases c2 : a = i ∧ k < b ∧ b < j
        · rw [if_pos c2, if_pos (by omega)]
        · rw [if_neg c2, if_neg (by omega)]
  · rintro z M' ⟨rfl, _, h', E'⟩
    have hA : jTb a0 n n F9 M'.2.2 := (h0.sub h'.2.2.2.2).sub jMk.sub
    unfold jf_X11_determinant_L110
    exact jT_rows hA (jo_t (by rw [nI_leI (by omega) (by omega)]; omega) (jo_ret ⟨h', E'⟩))
  · rintro _ M' ⟨h', E'⟩
    refine ⟨_, h', E', fun a b a1 a2 b1 b2 => ?_, fun a b a1 a2 b1 b2 hc => ?_⟩
    · by_cases c : a = i
      · rw [if_pos ⟨c, b1, b2⟩]
      · rw [if_neg (by omega)]
        exact hg1 a b a1 (by omega) b1 b2
    · rw [if_neg (by omega)]
      exact hg2 a b a1 a2 b1 b2 (by omega)
theorem jx_detClear {a0 k : Nat} {B G : Nat → Nat → Int} (hn : n ≤ 50) (hN : 100 < N) (hz : ∀ m, 1 ≤ m → m ≤ k → mn m B ≠ 0) {Mx : Nat} (hB : ∀ i j, i < n → j < n → (B i j).natAbs ≤ Mx) (hb : jBd n Mx) (hk : k < n) {sg : Int64} {F9 : Nat → Nat → Int} (h0 : jTb a0 n n F9 H0) (h : jTn t ar n n rr rf G H0 (jMk md M.2.2)) (hE : jExt md c s M0 M) (hg : dOnT n k G (bm k B)) :
    jo (jf_X11_determinant_j89 N a0 (some t) (jI (mn k B)) sg (nI k)) M (fun x M' => x = .inl (jI (mn (k + 1) B), sg, nI (k + 1)) ∧ ∃ G', jTn t ar n n rr rf G' H0 (jMk md M'.2.2) ∧ jExt md c s M0 M' ∧ dOnT n (k + 1) G' (bm (k + 1) B)) := by
  unfold jf_X11_determinant_j89
  rw [nI_1]
  refine jo_bd (jo_mono (jo_up n (fun i z M' => z = nI i ∧ k < i ∧ ∃ G', jTn t ar n n rr rf G' H0 (jMk md M'.2.2) ∧ jExt md c s M0 M' ∧ (∀ a b, k < a → a < i → k < b → b < n → G' a b = bm (k + 1) B a b) ∧ ∀ a b, k ≤ a → a < n → k ≤ b → b < n → (a = k ∨ b = k ∨ i ≤ a) → G' a b = bm k B a b) (fun _ M' => ∃ G', jTn t ar n n rr rf G' H0 (jMk md M'.2.2) ∧ jExt md c s M0 M' ∧ (∀ a b, k < a → a < n → k < b → b < n → G' a b = bm (k + 1) B a b) ∧ G' k k = bm k B k k) ?_ ?_ N (k + 1) _ M ⟨rfl, by omega, G, h, hE, fun a b a1 a2 => by omega, fun a b a1 a2 b1 b2 _ => hg a b a1 a2 b1 b2⟩ (by omega) (by omega)) ?_)
  · rintro i z M' hi ⟨rfl, ki, G', h', E', e1, e2⟩
    have hA : jTb a0 n n F9 M'.2.2 := (h0.sub h'.2.2.2.2).sub jMk.sub
    unfold jf_X11_determinant_L95 jf_X11_determinant_k110_180
    refine jT_rows hA (jo_f (by rw [nI_leI (by omega) (by omega)]; omega) (jo_bd (jo_mono (jx_detRow hn hN hz hB hb (by omega) ki hi h0 h' E' e1 e2) ?_)))
    rintro _ M1 ⟨G1, h1, E1, q1, q2⟩
    exact jo_ret ⟨by rw [nI_1], by omega, G1, h1, E1, q1, q2⟩
  · rintro z M' ⟨rfl, _, G', h', E', e1, e2⟩
    have hA : jTb a0 n n F9 M'.2.2 := (h0.sub h'.2.2.2.2).sub jMk.sub
    unfold jf_X11_determinant_L95
    exact jT_rows hA (jo_t (by rw [nI_leI (by omega) (by omega)]; omega) (jo_ret ⟨G', h', E', e1, e2 k k (by omega) (by omega) (by omega) (by omega) (.inl rfl)⟩))
  · rintro _ M' ⟨G', h', E', e1, e2⟩
    unfold jf_X11_determinant_k95_186
    refine jN_at h'.md (jN_row h'.md rfl hk (by omega) (jN_ld h'.md rfl hk hk (by omega) (jo_ret ⟨?_, G', h', E', fun a b a1 a2 b1 b2 => e1 a b (by omega) a2 (by omega) b2⟩)))
    rw [e2, bm_last, nI_1]
theorem jx_det {a0 : Nat} {A : Nat → Nat → Int} {Mx : Nat} (hM : ∀ a, md a = true → a < M0.1) (hE : jExt md c s M0 M) (h0 : jTb a0 n n A (jMk md M.2.2)) (hn : n ≤ 50) (hN : 100 < N) (hB : ∀ i j, i < n → j < n → (A i j).natAbs ≤ Mx) (hb : jBd n Mx) :
    jo (jf_X11_determinant N a0) M (fun r M' => r = jI (mn n A) ∧ jSub (jMk md M.2.2) (jMk md M'.2.2) ∧ jExt md (c + 2 + n + n) (s + 3 + n + n * n + n * n) M0 M') := by
  unfold jf_X11_determinant
  refine jT_cl (h0.sub jMk.sub) (jo_bd (jo_mono (jx_like hM hE h0 hn hn hN) ?_))
  rintro r M1 ⟨t, ar, rr, rf, rfl, h1, E1⟩
  refine jo_bd (jo_mono (jo_up (n - 1) (fun k z M' => ∃ (B G : Nat → Nat → Int) (sg : Int) (rr : Nat → Nat) (rf : Nat → Option Nat), z = (jI (mn k B), jI sg, nI k) ∧ mn n A = sg * mn n B ∧ (∀ m, 1 ≤ m → m ≤ k → mn m B ≠ 0) ∧ (∀ i j, i < n → j < n → (B i j).natAbs ≤ Mx) ∧ jTn t ar n n rr rf G (jMk md M.2.2) (jMk md M'.2.2) ∧ jExt md (c + 2 + n + n) (s + 3 + n + n * n + n * n) M0 M' ∧ dOnT n k G (bm k B)) (fun y M' => ∃ rr rf G, jTn t ar n n rr rf G (jMk md M.2.2) (jMk md M'.2.2) ∧ jExt md (c + 2 + n + n) (s + 3 + n + n * n + n * n) M0 M' ∧ ((y = .inl () ∧ mn n A = 0) ∨ ∃ sg, y = .inr (jI sg) ∧ (n = 0 ∨ mn n A = sg * G (n - 1) (n - 1)))) ?_ ?_ N 0 _ M1 ⟨A, A, 1, rr, rf, rfl, by rw [Int.one_mul], fun m h1 h2 => by omega, hB, h1, E1, fun i j _ a _ b => by rw [bm_0]⟩ (Nat.zero_le _) (by omega)) ?_)
  · rintro k z M' hk ⟨B, G, sg, rr, rf, rfl, e1, e2, e3, h', E', e4⟩
    have hkn : k < n := by omega
    have hA : jTb a0 n n A M'.2.2 := (h0.sub h'.2.2.2.2).sub jMk.sub
    unfold jf_X11_determinant_L13
    refine jT_rows hA (jo_f (by rw [nI_1, nI_leI (by omega) (by omega)]; omega) ?_)
    dsimp only
    -- the first row that is not 0
    refine jo_bd (jo_mono (jo_up n (fun p z M1 => z = nI p ∧ k ≤ p ∧ M1 = M' ∧ ∀ i, k ≤ i → i < p → bm k B i k = 0) (fun y M1 => M1 = M' ∧ ((y = nI n ∧ ∀ i, k ≤ i → i < n → bm k B i k = 0) ∨ ∃ p, y = nI p ∧ k ≤ p ∧ p < n ∧ bm k B p k ≠ 0)) ?_ ?_ N k _ M' ⟨rfl, Nat.le_refl _, rfl, fun i i1 i2 => by omega⟩ (by omega) (by omega)) ?_)
    · rintro p z M1 hp ⟨rfl, kp, rfl, e⟩
      unfold jf_X11_determinant_L28
      refine jT_rows hA (jo_f (by rw [nI_leI (by omega) (by omega)]; omega) (jN_at h'.md (jN_row h'.md rfl hp (by omega) (jN_ld h'.md rfl hp hkn (by omega) ?_))))
      rw [e4 p k kp hp (Nat.le_refl _) hkn]
      have rg := rg_of (bm_abs (k := k) (i := p) (j := k) e3 hkn hp hkn) (hb.2 k hkn)
      by_cases c : bm k B p k = 0
      · refine jo_t (by rw [c]; rfl) (jo_ret ⟨by rw [nI_1], by omega, rfl, fun i i1 i2 => ?_⟩)
        by_cases ei : i = p
        · rw [ei, c]
        · exact e i i1 (by omega)
      · exact jo_f (by rw [jI_0 rg]; exact c) (jo_ret ⟨rfl, .inr ⟨p, rfl, kp, hp, c⟩⟩)
    · rintro z M1 ⟨rfl, kp, rfl, e⟩
      unfold jf_X11_determinant_L28
      exact jT_rows hA (jo_t (by rw [nI_leI (by omega) (by omega)]; omega) (jo_ret ⟨rfl, .inl ⟨rfl, e⟩⟩))
    · rintro y M1 ⟨rfl, hy⟩
      unfold jf_X11_determinant_k28_58
      refine jT_rows hA ?_
      rcases hy with ⟨rfl, hy⟩ | ⟨p, rfl, kp, hp, hy⟩
      · refine jo_t rfl (jo_ret ⟨rr, rf, G, h', E', .inl ⟨rfl, ?_⟩⟩)
        rw [e1, mn_nopiv hkn e2 hy, Int.mul_zero]
      · refine jo_f (by rw [nI_eq (by omega) (by omega)]; omega) ?_
        by_cases c : p = k
        · subst c
          refine jo_t rfl (jo_mono (jx_detClear hn hN e2 e3 hb hkn h0 h' E' e4) ?_)
          rintro x M2 ⟨rfl, G2, h2, E2, q2⟩
          refine ⟨B, G2, sg, rr, rf, rfl, e1, fun m m1 m2 => ?_, e3, h2, E2, q2⟩
          by_cases cm : m = p + 1
          · subst cm; rw [← bm_last]; exact hy
          · exact e2 m m1 (by omega)
        · refine jo_f (by rw [nI_eq (by omega) (by omega)]; exact c) (jN_cl h'.md (jo_bd (jo_mono (jx_swapRows E' h' (by omega) hp hkn) ?_)))
          rintro _ M2 ⟨rr2, rf2, h2, E2⟩
          have f4 : dOnT n k (swr G p k) (bm k (swr B p k)) := by
            intro i j i1 i2 j1 j2
            rw [bm_sw kp (Nat.le_refl _) i1]
            exact e4 _ j (by split; omega; split <;> omega) (by split; omega; split <;> omega) j1 j2
          have f2 : ∀ m, 1 ≤ m → m ≤ k → mn m (swr B p k) ≠ 0 := fun m m1 m2 => by rw [mn_swlow (by omega) m2]; exact e2 m m1 m2
          have f3 : ∀ i j, i < n → j < n → (swr B p k i j).natAbs ≤ Mx := fun i j i1 j1 => e3 _ j (by split; omega; split <;> omega) j1
          have f5 : mn k B = mn k (swr B p k) := (mn_swlow (by omega) (Nat.le_refl _)).symm
          rw [f5, jI_neg]
          refine jo_mono (jx_detClear hn hN f2 f3 hb hkn h0 h2 E2 f4) ?_
          rintro x M3 ⟨rfl, G3, h3, E3, q3⟩
          refine ⟨swr B p k, G3, -sg, rr2, rf2, rfl, ?_, fun m m1 m2 => ?_, f3, h3, E3, q3⟩
          · rw [mn_swr hp hkn c, e1, Int.neg_mul_neg]
          · by_cases cm : m = k + 1
            · subst cm
              rw [← bm_last, bm_sw kp (Nat.le_refl _) (Nat.le_refl _), if_neg (fun e => c e.symm), if_pos rfl]
              exact hy
            · exact f2 m m1 (by omega)
  · rintro z M' ⟨B, G, sg, rr, rf, rfl, e1, e2, e3, h', E', e4⟩
    have hA : jTb a0 n n A M'.2.2 := (h0.sub h'.2.2.2.2).sub jMk.sub
    unfold jf_X11_determinant_L13
    refine jT_rows hA (jo_t (by rw [nI_1, nI_leI (by omega) (by omega)]; omega) (jo_ret ⟨rr, rf, G, h', E', .inr ⟨sg, rfl, ?_⟩⟩))
    by_cases n0 : n = 0
    · exact .inl n0
    · obtain ⟨n, rfl⟩ : ∃ k, n = k + 1 := ⟨n - 1, by omega⟩
      right
      rw [e1, e4 (n + 1 - 1) (n + 1 - 1) (Nat.le_refl _) (by omega) (Nat.le_refl _) (by omega)]
      rw [show n + 1 - 1 = n from rfl, bm_last]
  · rintro y M' ⟨rr, rf, G, h', E', ⟨rfl, e⟩ | ⟨sg, rfl, e⟩⟩
    · unfold jf_X11_determinant_k13_67
      exact jo_ret ⟨by rw [e]; rfl, h'.2.2.2.2, E'⟩
    · have hA : jTb a0 n n A M'.2.2 := (h0.sub h'.2.2.2.2).sub jMk.sub
      unfold jf_X11_determinant_k13_203
      refine jT_rows hA ?_
      by_cases n0 : n = 0
      · subst n0
        exact jo_t rfl (jo_ret ⟨rfl, h'.2.2.2.2, E'⟩)
      · refine jo_f (show ¬ nI n = nI 0 by rw [nI_eq (by omega) (by omega)]; exact n0) (jN_at h'.md (jT_rows hA (jN_row h'.md (nI_sub (a := n) (b := 1) (by omega)) (by omega) (by omega) (jT_rows hA (jN_ld h'.md (nI_sub (a := n) (b := 1) (by omega)) (by omega) (by omega) (by omega) (jo_ret ⟨?_, h'.2.2.2.2, E'⟩))))))
        rw [jI_mul, e.resolve_left n0]
end TD
