/-! PLAIN LAW, 93.o: the rank by a prime: component -/
def rlP (p R j K : Nat) (F : Nat → Nat → Int) (G : Nat → Nat → Nat) : Prop := ∀ i c, i < R → j ≤ c → c < K → F i c % (p : Int) = ((G i c : Nat) : Int) ∧ (F i c).natAbs < 1000
theorem sub_cong {a b t p : Int} : (a % p - t * (b % p)) % p = (a - t * b) % p := by
  have h1 : a = p * (a / p) + a % p := (Int.mul_ediv_add_emod a p).symm
  have h2 : b = p * (b / p) + b % p := (Int.mul_ediv_add_emod b p).symm
  have e : a - t * b = (a % p - t * (b % p)) + p * (a / p - t * (b / p)) := by
    generalize a / p = x at *
    generalize b / p = y at *
    generalize a % p = z at *
    generalize b % p = w at *
    subst h1 h2
    grind
  rw [e, Int.add_mul_emod_self_left]
theorem rkB_full {p R : Nat} : ∀ (n j : Nat) (G : Nat → Nat → Nat), rkB p R n j R G = R := by
  intro n
  induction n with
  | zero => intro j G; rfl
  | succ n ih =>
    intro j G
    unfold rkB
    have := fsr_ge (G := G) (R := R) (j := j) 7 R
    rw [if_neg (by omega)]
    exact ih (j + 1) G
section CP
variable {md : Nat → Bool} {N c s t a ar R K : Nat} {M0 M : Mem} {F : Nat → Nat → Int} {rr : Nat → Nat} {rf : Nat → Option Nat} {H0 : HM}
theorem jx_rbL30 {p j : Nat} {G : Nat → Nat → Nat} {A : Nat → Nat → Int} (hp : isP p) (hA : jTb a R K A M.2.2) (h : jTn t ar R K rr rf F H0 (jMk md M.2.2)) (hR : R ≤ 6) (hK : K ≤ 6) (hj : j < K) (hG : rlP p R j K F G) {r : Int32} : ∀ (g i N' : Nat), i ≤ R → R < i + g → g < N' → jo (jm_it (fun z => jf_X11_rankBy_L30 N a (nI p) (some t) r (nI j) z) N' (nI i)) M (fun x M' => x = nI (fsr G R j g i) ∧ M' = M) := by
  have hp' : 2 ≤ p ∧ p ≤ 7 := by unfold isP at hp; omega
  intro g
  induction g with
  | zero => intro i N' h1 h2; omega
  | succ g ih =>
    intro i N' h1 h2 h3
    obtain ⟨N', rfl⟩ : ∃ q, N' = q + 1 := ⟨N' - 1, by omega⟩
    have st : jo (jf_X11_rankBy_L30 N a (nI p) (some t) r (nI j) (nI i)) M (fun x M' => M' = M ∧ x = (if i < R ∧ G i j = 0 then .inl (nI (i + 1)) else .inr (nI i))) := by
      unfold jf_X11_rankBy_L30
      refine jT_rows hA ?_
      by_cases c : i < R
      · have gi := hG i j c (Nat.le_refl _) hj
        refine jo_f (by rw [nI_leI (by omega) (by omega)]; omega) (jN_at h.md (jN_row h.md rfl c (by omega) (jN_ld h.md rfl c hj (by omega) (jo_eq (jx_leftBy hp (by omega)) ?_))))
        rw [gi.1]
        have gl : G i j < p := by have := Int.emod_lt_of_pos (F i j) (show 0 < (p : Int) by omega); omega
        by_cases z : G i j = 0
        · refine jo_t (by rw [z]; rfl) (jo_ret ⟨rfl, ?_⟩)
          rw [if_pos ⟨c, z⟩, nI_1]
        · refine jo_f (by rw [jI_0 (by omega)]; omega) (jo_ret ⟨rfl, ?_⟩)
          rw [if_neg (fun y => z y.2)]
      · refine jo_t (by rw [nI_leI (by omega) (by omega)]; omega) (jo_ret ⟨rfl, ?_⟩)
        rw [if_neg (fun y => c y.1)]
    refine jo_its (jo_mono st ?_)
    rintro x M1 ⟨rfl, rfl⟩
    unfold fsr
    by_cases c : i < R ∧ G i j = 0
    · rw [if_pos c, if_pos c]
      exact ih (i + 1) N' (by omega) (by omega) (by omega)
    · rw [if_neg c, if_neg c]
      exact ⟨rfl, rfl⟩
/-- rows below r are lessened -/
theorem jx_rbElim {p r j : Nat} {G : Nat → Nat → Nat} {A : Nat → Nat → Int} (hp : isP p) (hA0 : jTb a R K A H0) (h : jTn t ar R K rr rf F H0 (jMk md M.2.2)) (hE : jExt md c s M0 M) (hR : R ≤ 6) (hK : K ≤ 6) (hN : 100 < N) (hr : r < R) (hj : j < K) (hG : rlP p R j K F G) {v5 : Int64} (hv : v5 = jI ((iv p (G r j) : Nat) : Int)) (hiv : iv p (G r j) < 8) :
    jo (jm_it (fun z => jf_X11_rankBy_L107 N a (nI p) (some t) (nI r) (nI j) v5 z) N (nI r + (1 : Int32))) M (fun _ M' => ∃ F', jTn t ar R K rr rf F' H0 (jMk md M'.2.2) ∧ jExt md c s M0 M' ∧ rlP p R j K F' (elm p G r j)) := by
  have hp' : 2 ≤ p ∧ p ≤ 7 := by unfold isP at hp; omega
  have glt : ∀ i c, i < R → j ≤ c → c < K → G i c < p := fun i c a b d => by
    have := Int.emod_lt_of_pos (F i c) (show 0 < (p : Int) by omega)
    have := (hG i c a b d).1
    omega
  subst hv
  rw [nI_1]
  -- the numbers that are laid
  have val : ∀ i c, r < i → i < R → j ≤ c → c < K → (F i c - (((G i j * iv p (G r j)) % p : Nat) : Int) * F r c) % (p : Int) = ((elm p G r j i c : Nat) : Int) ∧ (F i c - (((G i j * iv p (G r j)) % p : Nat) : Int) * F r c).natAbs < 100000 := by
    intro i c ri hi hjc hc
    have v := (elm_val (j := j) hp ri (glt i c hi hjc hc) (glt r c hr hjc hc)).1
    have g1 := hG i c hi hjc hc
    have g2 := hG r c hr hjc hc
    constructor
    · rw [v, ← g1.1, ← g2.1, sub_cong]
    · have ht := Nat.mod_lt (G i j * iv p (G r j)) (show 0 < p by omega)
      generalize (G i j * iv p (G r j)) % p = tt at *
      have : ((tt : Int) * F r c).natAbs ≤ 7 * 1000 := by rw [Int.natAbs_mul]; exact Nat.mul_le_mul (by omega) (by omega)
      omega
  refine jo_mono (jo_up R (fun i z M' => z = nI i ∧ r < i ∧ jTn t ar R K rr rf (fun x y => if r < x ∧ x < i ∧ j ≤ y then ((elm p G r j x y : Nat) : Int) else F x y) H0 (jMk md M'.2.2) ∧ jExt md c s M0 M') (fun _ M' => jTn t ar R K rr rf (fun x y => if r < x ∧ x < R ∧ j ≤ y then ((elm p G r j x y : Nat) : Int) else F x y) H0 (jMk md M'.2.2) ∧ jExt md c s M0 M') ?_ ?_ N (r + 1) _ M ⟨rfl, by omega, h.cg (fun x y _ _ => by rw [if_neg (by omega)]), hE⟩ (by omega) (by omega)) ?_
  · rintro i z M' hi ⟨rfl, ri, h', E'⟩
    have hA : jTb a R K A M'.2.2 := (hA0.sub h'.2.2.2.2).sub jMk.sub
    have gij := hG i j hi (Nat.le_refl _) hj
    unfold jf_X11_rankBy_L107 jf_X11_rankBy_k142_194
    refine jT_rows hA (jo_f (by rw [nI_leI (by omega) (by omega)]; omega) ?_)
    refine jN_at h'.md (jN_row h'.md rfl hi (by omega) (jN_ld h'.md rfl hi hj (by omega) ?_))
    rw [if_neg (by omega)]
    refine jo_eq (jx_leftBy hp (by omega)) ?_
    rw [gij.1, pl_l hp]
    refine jo_ck (pl_0 hp) ?_
    have pr : jI ((G i j : Nat) : Int) * jI ((iv p (G r j) : Nat) : Int) = jI ((G i j * iv p (G r j) : Nat) : Int) := by rw [jI_mul, Int.natCast_mul]
    have pb : G i j * iv p (G r j) ≤ 7 * 8 := Nat.mul_le_mul (by have := glt i j hi (Nat.le_refl _) hj; omega) (by omega)
    rw [pr, jI_nat_rem (by omega) (by omega)]
    refine jo_bd (jo_mono (jo_up K (fun q z M1 => z = nI q ∧ j ≤ q ∧ jTn t ar R K rr rf (fun x y => if (r < x ∧ x < i ∧ j ≤ y) ∨ (x = i ∧ j ≤ y ∧ y < q) then ((elm p G r j x y : Nat) : Int) else F x y) H0 (jMk md M1.2.2) ∧ jExt md c s M0 M1) (fun _ M1 => jTn t ar R K rr rf (fun x y => if r < x ∧ x < i + 1 ∧ j ≤ y then ((elm p G r j x y : Nat) : Int) else F x y) H0 (jMk md M1.2.2) ∧ jExt md c s M0 M1) ?_ ?_ N j _ M' ⟨rfl, Nat.le_refl _, h'.cg (fun x y _ _ => ?_), E'⟩ (by omega) (by omega)) ?_)
    · rintro q z M1 hq ⟨rfl, jq, h1, E1⟩
      have hA1 : jTb a R K A M1.2.2 := (hA0.sub h1.2.2.2.2).sub jMk.sub
      unfold jf_X11_rankBy_L142
      refine jT_cols hA1 (jo_f (by rw [nI_leI (by omega) (by omega)]; omega) ?_)
      refine jN_at h1.md (jN_row h1.md rfl hi (by omega) (jN_at h1.md (jN_row h1.md rfl hi (by omega) (jN_ld h1.md rfl hi hq (by omega) (jN_at h1.md (jN_row h1.md rfl hr (by omega) (jN_ld h1.md rfl hr hq (by omega) ?_)))))))
      rw [if_neg (by omega), if_neg (by omega), jI_mul, jI_sub]
      have v := val i q ri hi jq hq
      refine jo_eq (jx_leftBy hp (by omega)) ?_
      rw [v.1]
      refine jT_st h1 rfl hi hq (by omega) E1 rfl (fun M2 h2 E2 => jo_ret ⟨by rw [nI_1], by omega, h2.cg (fun x y _ _ => ?_), E2⟩)
      unfold uTb
      dsimp only
      by_cases e : x = i ∧ y = q
      · obtain ⟨rfl, rfl⟩ := e
        rw [if_pos ⟨rfl, rfl⟩, if_pos (by omega)]
      · rw [if_neg e]
        by_cases l : (r < x ∧ x < i ∧ j ≤ y) ∨ (x = i ∧ j ≤ y ∧ y < q)
        · rw [if_pos l, if_pos (by omega)]
        · rw [if_neg l, if_neg (by omega)]
    · rintro z M1 ⟨rfl, _, h1, E1⟩
      have hA1 : jTb a R K A M1.2.2 := (hA0.sub h1.2.2.2.2).sub jMk.sub
      unfold jf_X11_rankBy_L142
      refine jT_cols hA1 (jo_t (by rw [nI_leI (by omega) (by omega)]; omega) (jo_ret ⟨h1.cg (fun x y _ hy => ?_), E1⟩))
      by_cases l : (r < x ∧ x < i ∧ j ≤ y) ∨ (x = i ∧ j ≤ y ∧ y < K)
      · rw [if_pos l, if_pos (by omega)]
      · rw [if_neg l, if_neg (by omega)]
    · by_cases l : r < x ∧ x < i ∧ j ≤ y
      · rw [if_pos l, if_pos (.inl l)]
      · rw [if_neg l, if_neg (by omega)]
    · rintro _ M1 ⟨h1, E1⟩
      exact jo_ret ⟨by rw [nI_1], by omega, h1, E1⟩
  · rintro z M' ⟨rfl, _, h', E'⟩
    have hA : jTb a R K A M'.2.2 := (hA0.sub h'.2.2.2.2).sub jMk.sub
    unfold jf_X11_rankBy_L107
    exact jT_rows hA (jo_t (by rw [nI_leI (by omega) (by omega)]; omega) (jo_ret ⟨h', E'⟩))
  · rintro _ M' ⟨h', E'⟩
    refine ⟨_, h', E', fun i c hi h1 h2 => ?_⟩
    dsimp only
    by_cases l : r < i
    · rw [if_pos ⟨l, hi, h1⟩]
      have lt := elm_lt (r := r) (j := j) hp (glt i c hi h1 h2)
      exact ⟨Int.emod_eq_of_lt (by omega) (by omega), by omega⟩
    · rw [if_neg (by omega)]
      unfold elm
      rw [if_neg l]
      exact hG i c hi h1 h2
theorem jx_rbL {p : Nat} {A : Nat → Nat → Int} (hp : isP p) (hA0 : jTb a R K A H0) (hR : R ≤ 6) (hK : K ≤ 6) (hN : 100 < N) : ∀ (n j r N' : Nat) (G : Nat → Nat → Nat) (F : Nat → Nat → Int) (rr : Nat → Nat) (rf : Nat → Option Nat) (M : Mem), j + n = K → r ≤ R → n < N' → jTn t ar R K rr rf F H0 (jMk md M.2.2) → jExt md c s M0 M → rlP p R j K F G → jo (jm_it (fun z => jf_X11_rankBy_L10 N a (nI p) (some t) z.1 z.2) N' (nI r, nI j)) M (fun x M' => x = nI (rkB p R n j r G) ∧ jSub H0 (jMk md M'.2.2) ∧ jExt md c s M0 M') := by
  have hp' : 2 ≤ p ∧ p ≤ 7 := by unfold isP at hp; omega
  intro n
  induction n with
  | zero =>
    intro j r N' G F rr rf M hj hr hN' h hE hG
    obtain ⟨N', rfl⟩ : ∃ q, N' = q + 1 := ⟨N' - 1, by omega⟩
    have hA : jTb a R K A M.2.2 := (hA0.sub h.2.2.2.2).sub jMk.sub
    have st : jo (jf_X11_rankBy_L10 N a (nI p) (some t) (nI r) (nI j)) M (fun x M' => M' = M ∧ x = .inr (nI r)) := by
      unfold jf_X11_rankBy_L10
      exact jT_cols hA (jo_t (by rw [nI_leI (by omega) (by omega)]; omega) (jo_ret ⟨rfl, rfl⟩))
    refine jo_its (jo_mono st ?_)
    rintro x M1 ⟨rfl, rfl⟩
    exact ⟨rfl, h.2.2.2.2, hE⟩
  | succ n ih =>
    intro j r N' G F rr rf M hj hr hN' h hE hG
    obtain ⟨N', rfl⟩ : ∃ q, N' = q + 1 := ⟨N' - 1, by omega⟩
    have hA : jTb a R K A M.2.2 := (hA0.sub h.2.2.2.2).sub jMk.sub
    have ge := fsr_ge (G := G) (R := R) (j := j) 7 r
    have le := fsr_le (G := G) (R := R) (j := j) 7 r hr
    have st : jo (jf_X11_rankBy_L10 N a (nI p) (some t) (nI r) (nI j)) M (fun x M' => (x = .inr (nI r) ∧ r = R ∧ M' = M) ∨ ∃ F' rr' rf', jTn t ar R K rr' rf' F' H0 (jMk md M'.2.2) ∧ jExt md c s M0 M' ∧ ((fsr G R j 7 r < R ∧ x = .inl (nI (r + 1), nI (j + 1)) ∧ rlP p R j K F' (elm p (swn G (fsr G R j 7 r) r) r j)) ∨ (¬ fsr G R j 7 r < R ∧ x = .inl (nI r, nI (j + 1)) ∧ rlP p R j K F' G))) := by
      unfold jf_X11_rankBy_L10
      refine jT_cols hA (jo_f (by rw [nI_leI (by omega) (by omega)]; omega) (jT_rows hA ?_))
      by_cases rR : R ≤ r
      · exact jo_t (by rw [nI_leI (by omega) (by omega)]; exact rR) (jo_ret (.inl ⟨rfl, by omega, rfl⟩))
      refine jo_f (by rw [nI_leI (by omega) (by omega)]; exact rR) (jo_bd (jo_mono (jx_rbL30 hp hA h hR hK (by omega) hG 7 r N hr (by omega) (by omega)) ?_))
      rintro y M1 ⟨rfl, rfl⟩
      unfold jf_X11_rankBy_k30_64 jf_X11_rankBy_j203
      refine jT_rows hA ?_
      generalize hq : fsr G R j 7 r = q at *
      by_cases c1 : q < R
      · have nz := fsr_0 (G := G) (R := R) (j := j) 7 r (by omega) (by rw [hq]; exact c1)
        rw [hq] at nz
        refine jo_f (by rw [nI_eq (by omega) (by omega)]; omega) (jN_cl h.md (jo_bd (jo_mono (jx_swapRows hE h (by omega) c1 (show r < R by omega)) ?_)))
        rintro _ M2 ⟨rr2, rf2, h2, E2⟩
        have hG2 : rlP p R j K (swr F q r) (swn G q r) := fun i c hi a b => hG _ c (sw_lt c1 (by omega) hi) a b
        have grj := hG2 r j (by omega) (Nat.le_refl _) (by omega)
        have gl : swn G q r r j < p := by have := Int.emod_lt_of_pos (swr F q r r j) (show 0 < (p : Int) by omega); omega
        have g0 : swn G q r r j ≠ 0 := by
          unfold swn
          by_cases e : r = q
          · rw [if_pos e, e]; exact nz
          · rw [if_neg e, if_pos rfl]; exact nz
        have ivk := iv_ok p (by omega) hp _ gl g0
        refine jN_at h2.md (jN_row h2.md rfl (show r < R by omega) (by omega) (jN_ld h2.md rfl (show r < R by omega) (show j < K by omega) (by omega) (jo_eq (jx_leftBy hp (by omega)) ?_)))
        rw [grj.1]
        refine jo_eq (jx_inverse hp gl g0 (by omega)) ?_
        refine jo_bd (jo_mono (jx_rbElim hp hA0 h2 E2 hR hK hN (show r < R by omega) (by omega) hG2 rfl ivk.2) ?_)
        rintro _ M3 ⟨F3, h3, E3, q3⟩
        unfold jf_X11_rankBy_k107_200 jf_X11_rankBy_j203
        exact jo_ret (.inr ⟨F3, rr2, rf2, h3, E3, .inl ⟨c1, by rw [nI_1, nI_1], q3⟩⟩)
      · refine jo_t (by rw [nI_eq (by omega) (by omega)]; omega) (jo_ret (.inr ⟨F, rr, rf, h, hE, .inr ⟨c1, by rw [nI_1], hG⟩⟩))
    refine jo_its (jo_mono st ?_)
    rintro x M1 (⟨rfl, rfl, rfl⟩ | ⟨F', rr', rf', h1, E1, ⟨c1, rfl, e⟩ | ⟨c1, rfl, e⟩⟩)
    · rw [rkB_full]
      exact ⟨rfl, h.2.2.2.2, hE⟩
    · unfold rkB
      rw [if_pos c1]
      exact ih (j + 1) (r + 1) N' _ F' rr' rf' M1 (by omega) (by omega) (by omega) h1 E1 (fun i c hi a b => e i c hi (by omega) b)
    · unfold rkB
      rw [if_neg c1]
      exact ih (j + 1) r N' _ F' rr' rf' M1 (by omega) hr (by omega) h1 E1 (fun i c hi a b => e i c hi (by omega) b)
theorem jx_TrankBy (hM : ∀ a, md a = true → a < M0.1) (hE : jExt md c s M0 M) {p : Nat} (hp : isP p) (h : jTb t R K F (jMk md M.2.2)) (hR : R ≤ 6) (hK : K ≤ 6) (hN : 100 < N) (hF : ∀ i j, i < R → j < K → (F i j).natAbs < 1000) :
    jo (jf_X11_rankBy N t (nI p)) M (fun r M' => r = nI (rkB p R K 0 0 (pG p F)) ∧ jSub (jMk md M.2.2) (jMk md M'.2.2) ∧ jExt md (c + 2 + R + R) (s + 3 + R + R * K + K * R) M0 M') := by
  unfold jf_X11_rankBy jf_X11_rankBy_k10_209
  refine jT_cl (h.sub jMk.sub) (jo_bd (jo_mono (jx_like hM hE h (by omega) (by omega) hN) ?_))
  rintro r M1 ⟨t2, ar, rr, rf, rfl, h1, E1⟩
  refine jo_bd (jo_mono (jx_rbL hp h hR hK hN K 0 0 N (pG p F) F rr rf M1 (by omega) (Nat.zero_le _) (by omega) h1 E1 (fun i c hi _ hc => ⟨(pG_val hp).1.symm, hF i c hi hc⟩)) ?_)
  rintro x M2 ⟨rfl, s2, E2⟩
  exact jo_ret ⟨rfl, s2, E2⟩
end CP
