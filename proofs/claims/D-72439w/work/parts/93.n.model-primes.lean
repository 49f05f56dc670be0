/-! PLAIN LAW, 93.n: the rank by a prime: the model -/
section MP
variable {N m : Nat} {ad : Nat → Nat} {M0 M : Mem} {S : MS} {C : CX} {f : Nat → Int64}
theorem jm_swaps1 (h : jMM m ad M0 (s15 S f) M) (hN : 100 < N) {a : Nat} (ha : a < 6) : jo (jf_X1_swaps N m (nI a) (nI a)) M (fun _ M' => ∃ g, jMM m ad M0 (s15 S g) M' ∧ ∀ i j, i < 6 → j < 6 → g (6 * i + j) = f (6 * i + j)) := by
  unfold jf_X1_swaps
  refine jo_bd (jo_mono (jo_up 6 (fun c z M' => z = nI c ∧ ∃ g, jMM m ad M0 (s15 S g) M' ∧ ∀ i j, i < 6 → j < 6 → g (6 * i + j) = f (6 * i + j)) (fun _ M' => ∃ g, jMM m ad M0 (s15 S g) M' ∧ ∀ i j, i < 6 → j < 6 → g (6 * i + j) = f (6 * i + j)) ?_ ?_ N 0 _ M ⟨rfl, f, h, fun i j _ _ => rfl⟩ (by omega) (by omega)) ?_)
  · rintro c z M' hc ⟨rfl, g, hg, e⟩
    unfold jf_X1_swaps_L2
    refine jo_f (show ¬ nI 6 ≤ nI c by rw [nI_leI (by omega) (by omega)]; omega) ?_
    refine jM_ld15 hg (j := 6 * a + c) ix6 (by omega) ?_
    refine jo_rd (jM_fR hg (k := 15) rfl) ?_
    refine jM_ld15 hg (j := 6 * a + c) ix6 (by omega) ?_
    refine jM_st15 hg (j := 6 * a + c) ix6 (by omega) (fun M1 h1 => ?_)
    refine jo_rd (jM_fR h1 (k := 15) rfl) ?_
    refine jM_st15 h1 (j := 6 * a + c) ix6 (by omega) (fun M2 h2 => jo_ret ⟨by rw [nI_1], _, h2, fun i j hi hj => ?_⟩)
    rw [upL, upL]
    by_cases q : 6 * i + j = 6 * a + c
    · rw [if_pos q, ← q]; exact e i j hi hj
    · rw [if_neg q, if_neg q]; exact e i j hi hj
  · rintro z M' ⟨rfl, g, hg, e⟩
    unfold jf_X1_swaps_L2
    exact jo_t (show nI 6 ≤ nI 6 by decide) (jo_ret ⟨g, hg, e⟩)
  · intro _ M' hq
    exact jo_ret hq
theorem jm_swapsA (h : jMM m ad M0 (s15 S f) M) (hN : 100 < N) {a b : Nat} (ha : a < 6) (hb : b < 6) : jo (jf_X1_swaps N m (nI a) (nI b)) M (fun _ M' => ∃ g, jMM m ad M0 (s15 S g) M' ∧ ∀ i j, i < 6 → j < 6 → g (6 * i + j) = f (6 * (if i = a then b else if i = b then a else i) + j)) := by
  by_cases c : a = b
  · subst c
    refine jo_mono (jm_swaps1 h hN ha) ?_
    rintro _ M' ⟨g, h1, e⟩
    refine ⟨g, h1, fun i j hi hj => ?_⟩
    rw [e i j hi hj]
    by_cases q : i = a
    · rw [if_pos q, q]
    · rw [if_neg q, if_neg q]
  · exact jm_swaps h hN ha hb c
/-- the working table holds numbers below p -/
def gOn (p : Nat) (f : Nat → Int64) (G : Nat → Nat → Nat) : Prop := ∀ i c, i < 6 → c < 6 → f (6 * i + c) = jI ((G i c : Nat) : Int) ∧ G i c < p
theorem elm_lt {p : Nat} (hp : isP p) {G : Nat → Nat → Nat} {r j k c : Nat} (h : G k c < p) : elm p G r j k c < p := by
  unfold elm
  have h2 : 0 < (p : Int) := by unfold isP at hp; omega
  by_cases l : r < k
  · rw [if_pos l]
    have := Int.emod_lt_of_pos ((G k c : Int) - ((G k j * iv p (G r j)) % p : Nat) * (G r c : Int)) h2
    have := Int.emod_nonneg ((G k c : Int) - ((G k j * iv p (G r j)) % p : Nat) * (G r c : Int)) (show (p : Int) ≠ 0 by omega)
    omega
  · rw [if_neg l]; exact h
theorem elm_val {p : Nat} (hp : isP p) {G : Nat → Nat → Nat} {r j k c : Nat} (l : r < k) (h1 : G k c < p) (h2 : G r c < p) : ((elm p G r j k c : Nat) : Int) = ((G k c : Int) - ((G k j * iv p (G r j)) % p : Nat) * (G r c : Int)) % (p : Int) ∧ ((G k c : Int) - ((G k j * iv p (G r j)) % p : Nat) * (G r c : Int)).natAbs < 1000 := by
  have hp' : 2 ≤ p ∧ p ≤ 7 := by unfold isP at hp; omega
  have ht := Nat.mod_lt (G k j * iv p (G r j)) (show 0 < p by omega)
  constructor
  · unfold elm
    rw [if_pos l]
    exact Int.toNat_of_nonneg (Int.emod_nonneg _ (by omega))
  · generalize (G k j * iv p (G r j)) % p = t at *
    have : t * G r c ≤ 7 * 7 := Nat.mul_le_mul (by omega) (by omega)
    have e : (t : Int) * (G r c : Int) = ((t * G r c : Nat) : Int) := by rw [Int.natCast_mul]
    rw [e]
    omega
theorem jm_clears {p R r j : Nat} {G : Nat → Nat → Nat} (hp : isP p) (h : jMM m ad M0 (s15 S f) M) (hG : gOn p f G) (hN : 100 < N) (hR : R ≤ 6) (hr : r < R) (hj : j < 6) (h0 : G r j ≠ 0) : jo (jf_X1_clears N m (nI r) (nI j) (nI R) (nI p)) M (fun _ M' => ∃ g, jMM m ad M0 (s15 S g) M' ∧ ∃ H, gOn p g H ∧ ∀ i c, i < R → c < 6 → H i c = elm p G r j i c) := by
  have hp' : 2 ≤ p ∧ p ≤ 7 := by unfold isP at hp; omega
  have g0 := hG r j (by omega) hj
  have ivl := (iv_ok p (by omega) hp (G r j) g0.2 h0).2
  unfold jf_X1_clears jf_X1_clears_k23_126
  refine jM_ld15 h (j := 6 * r + j) ix6 (by omega) ?_
  rw [g0.1]
  refine jo_eq (jr_inverse hp g0.2 h0 (by omega)) ?_
  rw [nI_1]
  refine jo_bd (jo_mono (jo_up R (fun i z M' => z = nI i ∧ r < i ∧ ∃ g, jMM m ad M0 (s15 S g) M' ∧ gOn p g (fun x c => if x < i then elm p G r j x c else G x c)) (fun _ M' => ∃ g, jMM m ad M0 (s15 S g) M' ∧ gOn p g (fun x c => if x < R then elm p G r j x c else G x c)) ?_ ?_ N (r + 1) _ M ⟨rfl, by omega, f, h, fun x c hx hc => ?_⟩ (by omega) (by omega)) ?_)
  · rintro i z M' hi ⟨rfl, ri, g, h', hg⟩
    have gi := hg i j (by omega) hj
    dsimp only at gi
    rw [if_neg (Nat.lt_irrefl i)] at gi
    unfold jf_X1_clears_L23 jf_X1_clears_k53_120
    refine jo_f (by rw [nI_leI (by omega) (by omega)]; omega) (jM_ld15 h' (j := 6 * i + j) ix6 (by omega) ?_)
    rw [pl_l hp, gi.1]
    refine jo_ck (pl_0 hp) ?_
    have pr : jI ((G i j : Nat) : Int) * jI ((iv p (G r j) : Nat) : Int) = jI ((G i j * iv p (G r j) : Nat) : Int) := by rw [jI_mul, Int.natCast_mul]
    have pb : G i j * iv p (G r j) ≤ 7 * 8 := Nat.mul_le_mul (by omega) (by omega)
    rw [pr, jI_nat_rem (by omega) (by omega)]
    refine jo_bd (jo_mono (jo_up 6 (fun q z M1 => z = nI q ∧ ∃ g, jMM m ad M0 (s15 S g) M1 ∧ gOn p g (fun x c => if x < i then elm p G r j x c else if x = i ∧ c < q then elm p G r j x c else G x c)) (fun _ M1 => ∃ g, jMM m ad M0 (s15 S g) M1 ∧ gOn p g (fun x c => if x < i + 1 then elm p G r j x c else G x c)) ?_ ?_ N 0 _ M' ⟨rfl, g, h', fun x c hx hc => ?_⟩ (by omega) (by omega)) ?_)
    · rintro q z M1 hq ⟨rfl, g, h1, hg⟩
      have giq := hg i q (by omega) hq
      have grq := hg r q (by omega) hq
      have er : elm p G r j r q = G r q := by unfold elm; rw [if_neg (Nat.lt_irrefl r)]
      dsimp only at giq grq
      rw [if_neg (Nat.lt_irrefl i), if_neg (fun y => Nat.lt_irrefl q y.2)] at giq
      rw [if_pos ri, er] at grq
      obtain ⟨v1, v2⟩ := elm_val (j := j) hp ri giq.2 grq.2
      unfold jf_X1_clears_L53
      refine jo_f (show ¬ nI 6 ≤ nI q by rw [nI_leI (by omega) (by omega)]; omega) (jo_rd (jM_fR h1 (k := 15) rfl) (jM_ld15 h1 (j := 6 * i + q) ix6 (by omega) (jM_ld15 h1 (j := 6 * r + q) ix6 (by omega) ?_)))
      rw [pl_l hp, giq.1, grq.1]
      refine jo_ck (pl_0 hp) (jo_lt (jo_ck (pl_0 hp) ?_))
      rw [jI_mul, jI_sub, jl_left hp (by omega), ← v1]
      refine jM_st15 h1 (j := 6 * i + q) ix6 (by omega) (fun M2 h2 => jo_ret ⟨by rw [nI_1], _, h2, fun x c hx hc => ?_⟩)
      rw [upL]
      by_cases e : x = i ∧ c = q
      · obtain ⟨rfl, rfl⟩ := e
        rw [if_pos rfl]
        dsimp only
        rw [if_neg (Nat.lt_irrefl x), if_pos ⟨rfl, by omega⟩]
        exact ⟨rfl, elm_lt hp giq.2⟩
      · rw [if_neg (by rw [ij6 hc hq]; exact e)]
        have hx' := hg x c hx hc
        dsimp only at hx' ⊢
        by_cases l : x < i
        · rw [if_pos l] at hx' ⊢; exact hx'
        · rw [if_neg l] at hx' ⊢
          by_cases l2 : x = i ∧ c < q
          · rw [if_pos l2] at hx'; rw [if_pos (by omega)]; exact hx'
          · rw [if_neg l2] at hx'; rw [if_neg (by omega)]; exact hx'
    · rintro z M1 ⟨rfl, g, h1, hg⟩
      unfold jf_X1_clears_L53
      refine jo_t (show nI 6 ≤ nI 6 by decide) (jo_ret ⟨g, h1, fun x c hx hc => ?_⟩)
      have hx' := hg x c hx hc
      dsimp only at hx' ⊢
      by_cases l : x < i
      · rw [if_pos l] at hx'; rw [if_pos (by omega)]; exact hx'
      · rw [if_neg l] at hx'
        by_cases l2 : x = i
        · rw [if_pos ⟨l2, hc⟩] at hx'; rw [if_pos (by omega)]; exact hx'
        · rw [if_neg (fun y => l2 y.1)] at hx'; rw [if_neg (by omega)]; exact hx'
    · have hx' := hg x c hx hc
      dsimp only at hx' ⊢
      by_cases l : x < i
      · rw [if_pos l] at hx' ⊢; exact hx'
      · rw [if_neg l] at hx' ⊢
        rw [if_neg (by omega)]; exact hx'
    · rintro _ M1 ⟨g, h1, hg⟩
      exact jo_ret ⟨by rw [nI_1], by omega, g, h1, hg⟩
  · rintro z M' ⟨rfl, _, g, h', hg⟩
    unfold jf_X1_clears_L23
    exact jo_t (by rw [nI_leI (by omega) (by omega)]; omega) (jo_ret ⟨g, h', hg⟩)
  · have hx' := hG x c hx hc
    dsimp only
    by_cases l : x < r + 1
    · rw [if_pos l]
      unfold elm
      rw [if_neg (by omega)]
      exact hx'
    · rw [if_neg l]; exact hx'
  · rintro _ M' ⟨g, h', hg⟩
    exact jo_ret ⟨g, h', _, hg, fun i c hi _ => if_pos hi⟩
/-- the search of a pivot -/
theorem jm_rankL55 {p R K r j : Nat} {G : Nat → Nat → Nat} (hp : isP p) (h : jMM m ad M0 (s15 S f) M) (hG : gOn p f G) (hR : R ≤ 6) (hj : j < 6) {vK vp : Int32} : ∀ (g i N' : Nat), i ≤ R → R < i + g → g < N' → jo (jm_it (fun z => jf_X1_rankBy_L55 N m (nI R) vK vp (nI r) (nI j) z) N' (nI i)) M (fun x M' => x = nI (fsr G R j g i) ∧ M' = M) := by
  have hp' : 2 ≤ p ∧ p ≤ 7 := by unfold isP at hp; omega
  intro g
  induction g with
  | zero => intro i N' h1 h2; omega
  | succ g ih =>
    intro i N' h1 h2 h3
    obtain ⟨N', rfl⟩ : ∃ q, N' = q + 1 := ⟨N' - 1, by omega⟩
    have st : jo (jf_X1_rankBy_L55 N m (nI R) vK vp (nI r) (nI j) (nI i)) M (fun x M' => M' = M ∧ x = (if i < R ∧ G i j = 0 then .inl (nI (i + 1)) else .inr (nI i))) := by
      unfold jf_X1_rankBy_L55
      by_cases c : i < R
      · have gi := hG i j (by omega) hj
        refine jo_f (by rw [nI_leI (by omega) (by omega)]; omega) (jM_ld15 h (j := 6 * i + j) ix6 (by omega) ?_)
        rw [gi.1]
        by_cases z : G i j = 0
        · refine jo_t (by rw [z]; rfl) (jo_ret ⟨rfl, ?_⟩)
          rw [if_pos ⟨c, z⟩, nI_1]
        · refine jo_f (by rw [jI_0 (by omega)]; omega) (jo_ret ⟨rfl, ?_⟩)
          rw [if_neg (fun y => z y.2)]
      · refine jo_t (by rw [nI_leI (by omega) (by omega)]; omega) (jo_ret ⟨rfl, ?_⟩)
        rw [if_neg (fun y => c y.1)]
    refine jo_its (jo_mono st ?_)
    rintro x M1 ⟨rfl, rfl⟩
    unfold fsr
    by_cases c : i < R ∧ G i j = 0
    · rw [if_pos c, if_pos c]
      exact ih (i + 1) N' (by omega) (by omega) (by omega)
    · rw [if_neg c, if_neg c]
      exact ⟨rfl, rfl⟩
theorem fsr_0 {G : Nat → Nat → Nat} {R j : Nat} : ∀ (g i : Nat), R < i + g → fsr G R j g i < R → G (fsr G R j g i) j ≠ 0 := by
  intro g
  induction g with
  | zero => intro i h1 h2; unfold fsr at h2; omega
  | succ g ih =>
    intro i h1 h2
    unfold fsr at h2 ⊢
    by_cases c : i < R ∧ G i j = 0
    · rw [if_pos c] at h2 ⊢; exact ih (i + 1) (by omega) h2
    · rw [if_neg c] at h2 ⊢; exact fun z => c ⟨h2, z⟩
/-- from column j on -/
theorem jm_rankL {p R K : Nat} (hp : isP p) (hR : R ≤ 6) (hK : K ≤ 6) (hN : 100 < N) : ∀ (n j r N' : Nat) (G : Nat → Nat → Nat) (f : Nat → Int64) (M : Mem), j + n = K → r ≤ R → n < N' → jMM m ad M0 (s15 S f) M → gOn p f G → jo (jm_it (fun z => jf_X1_rankBy_L45 N m (nI R) (nI K) (nI p) z.1 z.2) N' (nI r, nI j)) M (fun x M' => x = nI (rkB p R n j r G) ∧ ∃ g, jMM m ad M0 (s15 S g) M') := by
  intro n
  induction n with
  | zero =>
    intro j r N' G f M hj hr hN' h hG
    obtain ⟨N', rfl⟩ : ∃ q, N' = q + 1 := ⟨N' - 1, by omega⟩
    have st : jo (jf_X1_rankBy_L45 N m (nI R) (nI K) (nI p) (nI r) (nI j)) M (fun x M' => M' = M ∧ x = .inr (nI r)) := by
      unfold jf_X1_rankBy_L45
      exact jo_t (by rw [nI_leI (by omega) (by omega)]; omega) (jo_ret ⟨rfl, rfl⟩)
    refine jo_its (jo_mono st ?_)
    rintro x M1 ⟨rfl, rfl⟩
    exact ⟨rfl, f, h⟩
  | succ n ih =>
    intro j r N' G f M hj hr hN' h hG
    obtain ⟨N', rfl⟩ : ∃ q, N' = q + 1 := ⟨N' - 1, by omega⟩
    have ge := fsr_ge (G := G) (R := R) (j := j) 7 r
    have st : jo (jf_X1_rankBy_L45 N m (nI R) (nI K) (nI p) (nI r) (nI j)) M (fun x M' => ∃ g H, jMM m ad M0 (s15 S g) M' ∧ gOn p g H ∧ ((fsr G R j 7 r < R ∧ x = .inl (nI (r + 1), nI (j + 1)) ∧ ∀ i c, i < R → c < 6 → H i c = elm p (swn G (fsr G R j 7 r) r) r j i c) ∨ (¬ fsr G R j 7 r < R ∧ x = .inl (nI r, nI (j + 1)) ∧ H = G))) := by
      unfold jf_X1_rankBy_L45
      refine jo_f (by rw [nI_leI (by omega) (by omega)]; omega) (jo_bd (jo_mono (jm_rankL55 (K := K) hp h hG hR (by omega) 7 r N hr (by omega) (by omega)) ?_))
      rintro y M1 ⟨rfl, rfl⟩
      unfold jf_X1_rankBy_k55_85 jf_X1_rankBy_j112
      have le := fsr_le (G := G) (R := R) (j := j) 7 r hr
      generalize hq : fsr G R j 7 r = q at *
      by_cases c : q < R
      · have nz := fsr_0 (G := G) (R := R) (j := j) 7 r (by omega) (by rw [hq]; exact c)
        rw [hq] at nz
        refine jo_f (by rw [nI_leI (by omega) (by omega)]; omega) (jo_rd (jM_cl h) (jo_bd (jo_mono (jm_swapsA h hN (show q < 6 by omega) (show r < 6 by omega)) ?_)))
        rintro _ M2 ⟨g2, h2, e2⟩
        have hG2 : gOn p g2 (swn G q r) := fun i c hi hc => by
          rw [e2 i c hi hc]
          exact hG _ c (sw_lt (by omega) (by omega) hi) hc
        refine jo_rd (jM_cl h2) (jo_bd (jo_mono (jm_clears hp h2 hG2 hN hR (show r < R by omega) (by omega) ?_) ?_))
        · unfold swn
          by_cases e : r = q
          · rw [if_pos e, e]; exact nz
          · rw [if_neg e, if_pos rfl]; exact nz
        · rintro _ M3 ⟨g3, h3, H, q1, q2⟩
          exact jo_ret ⟨g3, H, h3, q1, .inl ⟨c, by rw [nI_1, nI_1], q2⟩⟩
      · exact jo_t (by rw [nI_leI (by omega) (by omega)]; omega) (jo_ret ⟨f, G, h, hG, .inr ⟨c, by rw [nI_1], rfl⟩⟩)
    refine jo_its (jo_mono st ?_)
    rintro x M1 ⟨g, H, h1, hH, ⟨c, rfl, e⟩ | ⟨c, rfl, rfl⟩⟩
    · unfold rkB
      rw [if_pos c]
      rw [← rkB_cg n (j + 1) (r + 1) H (elm p (swn G (fsr G R j 7 r) r) r j) (by omega) (fun i q hi a b => e i q hi (by omega))]
      exact ih (j + 1) (r + 1) N' H g M1 (by omega) (by omega) (by omega) h1 hH
    · unfold rkB
      rw [if_neg c]
      exact ih (j + 1) r N' H g M1 (by omega) hr (by omega) h1 hH
/-- the rank of a table by a prime -/
def pG (p : Nat) (A : Nat → Nat → Int) : Nat → Nat → Nat := fun i c => (A i c % (p : Int)).toNat
theorem pG_val {p : Nat} (hp : isP p) {A : Nat → Nat → Int} {i c : Nat} : ((pG p A i c : Nat) : Int) = A i c % (p : Int) ∧ pG p A i c < p := by
  have h2 : 0 < (p : Int) := by unfold isP at hp; omega
  have := Int.emod_lt_of_pos (A i c) h2
  have := Int.emod_nonneg (A i c) (show (p : Int) ≠ 0 by omega)
  unfold pG
  omega
theorem jm_rankBy {p R K : Nat} {A : Nat → Nat → Int} (hp : isP p) (h : jMM m ad M0 (s15 S f) M) (hA : ∀ i c, i < 6 → c < 6 → f (6 * i + c) = jI (A i c) ∧ (A i c).natAbs < 1000) (hR : R ≤ 6) (hK : K ≤ 6) (hN : 100 < N) : jo (jf_X1_rankBy N m (nI R) (nI K) (nI p)) M (fun x M' => x = nI (rkB p R K 0 0 (pG p A)) ∧ ∃ g, jMM m ad M0 (s15 S g) M') := by
  unfold jf_X1_rankBy
  refine jo_bd (jo_mono (jo_up 36 (fun q z M' => z = nI q ∧ ∃ g, jMM m ad M0 (s15 S g) M' ∧ ∀ i c, i < 6 → c < 6 → g (6 * i + c) = if 6 * i + c < q then jI ((pG p A i c : Nat) : Int) else jI (A i c)) (fun _ M' => ∃ g, jMM m ad M0 (s15 S g) M' ∧ ∀ i c, i < 6 → c < 6 → g (6 * i + c) = jI ((pG p A i c : Nat) : Int)) ?_ ?_ N 0 _ M ⟨rfl, f, h, fun i c hi hc => by rw [if_neg (by omega)]; exact (hA i c hi hc).1⟩ (by omega) (by omega)) ?_)
  · rintro q z M' hq ⟨rfl, g, h', e⟩
    unfold jf_X1_rankBy_L3
    refine jo_f (show ¬ nI 36 ≤ nI q by rw [nI_leI (by omega) (by omega)]; omega) (jo_rd (jM_fR h' (k := 15) rfl) (jM_ld15 h' (j := q) rfl hq ?_))
    have eq : q = 6 * (q / 6) + q % 6 := by omega
    have e1 := e (q / 6) (q % 6) (by omega) (by omega)
    rw [← eq, if_neg (Nat.lt_irrefl q)] at e1
    have ab := (hA (q / 6) (q % 6) (by omega) (by omega)).2
    rw [e1, pl_l hp]
    refine jo_ck (pl_0 hp) (jo_ck (pl_0 hp) (jo_lt ?_))
    rw [jl_left hp (by omega), ← (pG_val hp).1]
    refine jM_st15 h' (j := q) rfl hq (fun M1 h1 => jo_ret ⟨by rw [nI_1], _, h1, fun i c hi hc => ?_⟩)
    rw [upL]
    by_cases ec : 6 * i + c = q
    · have : i = q / 6 ∧ c = q % 6 := by omega
      rw [if_pos ec, if_pos (by omega), this.1, this.2]
    · rw [if_neg ec, e i c hi hc]
      by_cases l : 6 * i + c < q
      · rw [if_pos l, if_pos (by omega)]
      · rw [if_neg l, if_neg (by omega)]
  · rintro z M' ⟨rfl, g, h', e⟩
    unfold jf_X1_rankBy_L3
    exact jo_t (show nI 36 ≤ nI 36 by decide) (jo_ret ⟨g, h', fun i c hi hc => by rw [e i c hi hc, if_pos (by omega)]⟩)
  · rintro _ M' ⟨g, h', e⟩
    unfold jf_X1_rankBy_k3_39 jf_X1_rankBy_k45_118
    refine jo_bd (jo_mono (jm_rankL hp hR hK hN K 0 0 N (pG p A) g M' (by omega) (Nat.zero_le _) (by omega) h' (fun i c hi hc => ⟨e i c hi hc, (pG_val hp).2⟩)) ?_)
    rintro x M1 ⟨rfl, w, h1⟩
    exact jo_ret ⟨rfl, w, h1⟩
end MP
