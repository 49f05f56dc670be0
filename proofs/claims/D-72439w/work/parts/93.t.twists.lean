/-! PLAIN LAW, 93.t: the twists of a table: component -/
/-- the minors are longs -/
def lowM (R K : Nat) (F : Nat → Nat → Int) : Prop := ∀ (k : Nat) (σ τ : Nat → Nat), k ≤ R → k ≤ K → (∀ a, a < k → σ a < R) → (∀ a, a < k → τ a < K) → (mn k (fun a b => F (σ a) (τ b))).natAbs < 9223372036854775808
theorem top_lt {R K r : Nat} {F G : Nat → Nat → Int} (hm : lowM R K F) (hr : r ≤ R) (hk : r ≤ K) (h1 : ∀ i, i < r → G i i ≠ 0) (h2 : ∀ q x, dv q R K F x ↔ dvP q r (fun i => G i i) x) : pr r (fun i => ((G i i).natAbs : Int)) < 9223372036854775808 := by
  have ne : pr r (fun i => G i i) ≠ 0 := pr_ne h1
  have h3 : dv r R K F (pr r (fun i => G i i)) := (h2 r _).mpr (dvP_top.mpr (Int.dvd_refl _))
  have h4 : ¬ dv r R K F 0 := fun y => by
    have := dvP_top.mp ((h2 r 0).mp y)
    exact ne (Int.zero_dvd.mp this)
  rw [pr_abs]
  have : ∃ σ τ : Nat → Nat, (∀ a, a < r → σ a < R) ∧ (∀ a, a < r → τ a < K) ∧ mn r (fun a b => F (σ a) (τ b)) ≠ 0 := by
    refine Classical.byContradiction fun y => h4 ?_
    intro σ τ hs ht
    have : mn r (fun a b => F (σ a) (τ b)) = 0 := Classical.byContradiction fun z => y ⟨σ, τ, hs, ht, z⟩
    rw [this]
    exact Int.dvd_refl _
  obtain ⟨σ, τ, hs, ht, hz⟩ := this
  have h5 := hm r σ τ hr hk hs ht
  have h6 := h3 σ τ hs ht
  have h7 : (pr r (fun i => G i i)).natAbs ≤ (mn r (fun a b => F (σ a) (τ b))).natAbs := Nat.le_of_dvd (by omega) (Int.natAbs_dvd_natAbs.mpr h6)
  omega
theorem gl_start (k : Nat) (a : Nat → Int) : glI k 0 (0 + 1) a := ⟨fun x y hx => by omega, fun y h1 h2 _ => by
  obtain rfl : y = 0 := by omega
  exact Int.dvd_refl _⟩
section TW
variable {β : Type} {Q : β → Mem → Prop} {md : Nat → Bool} {N c s t R K : Nat} {M0 M : Mem} {F : Nat → Nat → Int}
theorem jx_common {a b : Int} (ha : a.natAbs < 9223372036854775808) (hb : b.natAbs < 9223372036854775808) (hN : 9223372036854775808 < N) : (jf_X0_common N (jI a) (jI b)).1 M = some (jI ((Int.gcd a b : Nat) : Int), M) := by
  refine jo_out ?_
  unfold jf_X0_common
  refine jo_lt (jo_lt ?_)
  rw [jI_abs ha, jI_abs hb]
  refine jo_bd (jo_mono (show jo (jm_it (fun z => jf_X0_common_L12 N z.1 z.2) N (jI (a.natAbs : Int), jI (b.natAbs : Int))) M (fun r M' => r = jI ((Nat.gcd a.natAbs b.natAbs : Nat) : Int) ∧ M' = M) from jr_gcdL (N := N) b.natAbs a.natAbs N ha hb (by omega)) ?_)
  rintro r M1 ⟨rfl, rfl⟩
  exact jo_ret ⟨rfl, rfl⟩
/-- the row q holds the numbers a -/
def jRow (q k : Nat) (a : Nat → Int) (H : HM) : Prop := ∃ g, H q = some (aJ k g) ∧ ∀ i, i < k → g i = jI (a i)
theorem jRow_ld {p : Int64 → jm_P β} {q k : Nat} {a : Nat → Int} (h : jRow q k a M.2.2) {i : Nat} {i' : Int32} (hi' : i' = nI i) (hi : i < k) (hk : k < 2 ^ 31) (kk : jo (p (jI (a i))) M Q) : jo (jm_rd (jm_ldJ 2 (some q) i') p) M Q := by
  obtain ⟨g, h1, h2⟩ := h
  refine jo_ldJ h1 hi' hi hk ?_
  rw [h2 i hi]; exact kk
theorem jRow.ml {q k : Nat} {a : Nat → Int} (h : jRow q k a (jMk md M.2.2)) : jRow q k a M.2.2 := by obtain ⟨g, h1, h2⟩ := h; exact ⟨g, (mkg h1).2, h2⟩
theorem jRow_st {p : jm_P β} {H0 : HM} {q k : Nat} {a : Nat → Int} (h : jRow q k a (jMk md M.2.2)) (hs : jSub H0 (jMk md M.2.2)) (h0 : H0 q = none) {i : Nat} {i' : Int32} (hi' : i' = nI i) (hi : i < k) (hk : k < 2 ^ 31) (hE : jExt md c s M0 M) {z : Int} {v : Int64} (hv : v = jI z) (kk : ∀ M1, jRow q k (upI a i z) (jMk md M1.2.2) → jSub H0 (jMk md M1.2.2) → jExt md c s M0 M1 → jo p M1 Q) : jo (jm_wr (jm_stJ 2 (some q) i' v) p) M Q := by
  subst hi' hv
  obtain ⟨g, h1, h2⟩ := h
  refine jX_wr (jl_st (mkg h1).2 (jm_ixn hi hk)) h1 hE (fun M1 e2 E1 => kk M1 ⟨_, by rw [e2, va_up_self], fun x hx => ?_⟩ (by rw [e2]; exact hs.wr h0) E1)
  unfold upI vp_updL
  by_cases xi : x = i
  · rw [if_pos xi, if_pos xi]
  · rw [if_neg xi, if_neg xi]; exact h2 x hx
theorem jRow.cg {q k : Nat} {a b : Nat → Int} {H : HM} (h : jRow q k a H) (e : ∀ i, i < k → a i = b i) : jRow q k b H := by obtain ⟨g, h1, h2⟩ := h; exact ⟨g, h1, fun i hi => by rw [h2 i hi, e i hi]⟩
theorem up2 {a : Nat → Int} {i j : Nat} {u v : Int} (h : i ≠ j) : upI (upI a j v) i u = upI (upI a i u) j v := by
  funext x
  unfold upI
  by_cases xi : x = i
  · subst xi; rw [if_pos rfl, if_neg h, if_pos rfl]
  · rw [if_neg xi, if_neg xi]
theorem jx_twL {H0 : HM} {q k : Nat} {a0 : Nat → Int} (h0 : H0 q = none) (hk : k ≤ 50) (hp : pr k a0 < 9223372036854775808) (hN : 9223372036854775808 < N) {i : Nat} (hi : i < k) : ∀ (n j N' : Nat) (a : Nat → Int) (M : Mem), j + n = k → i < j → n < N' → glR k a0 a → glI k i j a → jRow q k a (jMk md M.2.2) → jSub H0 (jMk md M.2.2) → jExt md c s M0 M →
    jo (jm_it (fun z => jf_X11_twists_L67 N (nI k) (some q) (nI i) z) N' (nI j)) M (fun _ M' => ∃ a, glR k a0 a ∧ glI k i k a ∧ jRow q k a (jMk md M'.2.2) ∧ jSub H0 (jMk md M'.2.2) ∧ jExt md c s M0 M') := by
  intro n
  induction n with
  | zero =>
    intro j N' a M e hij hN' h1 h2 h3 h4 h5
    obtain ⟨N', rfl⟩ : ∃ n, N' = n + 1 := ⟨N' - 1, by omega⟩
    obtain rfl : j = k := by omega
    have st : jo (jf_X11_twists_L67 N (nI j) (some q) (nI i) (nI j)) M (fun z M' => M' = M ∧ z = .inr ()) := by
      unfold jf_X11_twists_L67
      exact jo_t (by rw [nI_leI (by omega) (by omega)]; omega) (jo_ret ⟨rfl, rfl⟩)
    refine jo_its (jo_mono st ?_)
    rintro z M1 ⟨rfl, rfl⟩
    exact ⟨a, h1, h2, h3, h4, h5⟩
  | succ n ih =>
    intro j N' a M e hij hN' h1 h2 h3 h4 h5
    obtain ⟨N', rfl⟩ : ∃ n, N' = n + 1 := ⟨N' - 1, by omega⟩
    have hj : j < k := by omega
    have pi := h1.1 i hi
    have pj := h1.1 j hj
    have b1 := pr_one h1.1 hi
    have b2 := pr_one h1.1 hj
    have b3 := pr_two h1.1 hij hj
    rw [h1.2.1] at b1 b2 b3
    obtain ⟨s1, s2⟩ := gl_step hij hj h1 h2
    have g1 : ((Int.gcd (a i) (a j) : Nat) : Int) ∣ a i := Int.gcd_dvd_left ..
    have gp : (0 : Int) < ((Int.gcd (a i) (a j) : Nat) : Int) := by
      have : 0 < Int.gcd (a i) (a j) := Int.gcd_pos_of_ne_zero_left _ (by omega)
      omega
    have gle : ((Int.gcd (a i) (a j) : Nat) : Int) ≤ a i := Int.le_of_dvd pi g1
    have st : jo (jf_X11_twists_L67 N (nI k) (some q) (nI i) (nI j)) M (fun z M' => z = .inl (nI (j + 1)) ∧ jRow q k (upI (upI a i ((Int.gcd (a i) (a j) : Nat) : Int)) j (a i / ((Int.gcd (a i) (a j) : Nat) : Int) * a j)) (jMk md M'.2.2) ∧ jSub H0 (jMk md M'.2.2) ∧ jExt md c s M0 M') := by
      unfold jf_X11_twists_L67
      refine jo_f (by rw [nI_leI (by omega) (by omega)]; omega) (jRow_ld (a := a) h3.ml rfl hi (by omega) (jRow_ld (a := a) h3.ml rfl hj (by omega) (jo_eq (jx_common (a := a i) (b := a j) (by omega) (by omega) hN) (jRow_ld (a := a) h3.ml rfl hi (by omega) ?_))))
      generalize hg : ((Int.gcd (a i) (a j) : Nat) : Int) = g at *
      refine jo_ck (by rw [jI_0 (by omega)]; omega) (jRow_ld (a := a) h3.ml rfl hj (by omega) ?_)
      refine jRow_st h3 h4 h0 rfl hj (by omega) h5 (z := a i / g * a j) ?_ (fun M1 r1 t1 E1 => ?_)
      · rw [jI_tdv (by omega) (by omega), jI_mul, Int.tdiv_eq_ediv_of_nonneg (by omega)]
      · refine jRow_st r1 t1 h0 rfl hi (by omega) E1 (z := g) rfl (fun M2 r2 t2 E2 => jo_ret ⟨by rw [nI_1], ?_, t2, E2⟩)
        rw [up2 (show i ≠ j by omega)] at r2
        exact r2
    refine jo_its (jo_mono st ?_)
    rintro z M1 ⟨rfl, r1, t1, E1⟩
    exact ih (j + 1) N' _ M1 (by omega) (by omega) (by omega) s1 s2 r1 t1 E1
theorem jx_twLL {H0 : HM} {q k : Nat} {a0 : Nat → Int} (h0 : H0 q = none) (hk : k ≤ 50) (hp : pr k a0 < 9223372036854775808) (hN : 9223372036854775808 < N) : ∀ (n i N' : Nat) (a : Nat → Int) (M : Mem), i + n = k → n < N' → glR k a0 a → glI k i (i + 1) a → jRow q k a (jMk md M.2.2) → jSub H0 (jMk md M.2.2) → jExt md c s M0 M →
    jo (jm_it (fun z => jf_X11_twists_L55 N (nI k) (some q) z) N' (nI i)) M (fun _ M' => ∃ a, glR k a0 a ∧ (∀ x y, x ≤ y → y < k → a x ∣ a y) ∧ jRow q k a (jMk md M'.2.2) ∧ jSub H0 (jMk md M'.2.2) ∧ jExt md c s M0 M') := by
  intro n
  induction n with
  | zero =>
    intro i N' a M e hN' h1 h2 h3 h4 h5
    obtain ⟨N', rfl⟩ : ∃ n, N' = n + 1 := ⟨N' - 1, by omega⟩
    obtain rfl : i = k := by omega
    have st : jo (jf_X11_twists_L55 N (nI i) (some q) (nI i)) M (fun z M' => M' = M ∧ z = .inr ()) := by
      unfold jf_X11_twists_L55
      exact jo_t (by rw [nI_leI (by omega) (by omega)]; omega) (jo_ret ⟨rfl, rfl⟩)
    refine jo_its (jo_mono st ?_)
    rintro z M1 ⟨rfl, rfl⟩
    exact ⟨a, h1, fun x y hxy hy => h2.1 x y (by omega) hxy hy, h3, h4, h5⟩
  | succ n ih =>
    intro i N' a M e hN' h1 h2 h3 h4 h5
    obtain ⟨N', rfl⟩ : ∃ n, N' = n + 1 := ⟨N' - 1, by omega⟩
    have st : jo (jf_X11_twists_L55 N (nI k) (some q) (nI i)) M (fun z M' => z = .inl (nI (i + 1)) ∧ ∃ a, glR k a0 a ∧ glI k i k a ∧ jRow q k a (jMk md M'.2.2) ∧ jSub H0 (jMk md M'.2.2) ∧ jExt md c s M0 M') := by
      unfold jf_X11_twists_L55 jf_X11_twists_k67_114
      refine jo_f (by rw [nI_leI (by omega) (by omega)]; omega) ?_
      rw [nI_1]
      refine jo_bd (jo_mono (jx_twL h0 hk hp hN (by omega) (k - (i + 1)) (i + 1) N a M (by omega) (by omega) (by omega) h1 h2 h3 h4 h5) ?_)
      rintro _ M1 g
      exact jo_ret ⟨rfl, g⟩
    refine jo_its (jo_mono st ?_)
    rintro z M1 ⟨rfl, a', g1, g2, g3, g4, g5⟩
    exact ih (i + 1) N' a' M1 (by omega) (by omega) g1 (gl_next g2) g3 g4 g5
/-- the twists of a table -/
def twN (R K k : Nat) (F : Nat → Nat → Int) (a : Nat → Int) : Prop := k ≤ R ∧ k ≤ K ∧ (∀ x, x < k → 0 < a x) ∧ (∀ x y, x ≤ y → y < k → a x ∣ a y) ∧ pr k a < 9223372036854775808 ∧ (∀ z x, dv z R K F x ↔ dvP z k a x) ∧ isRk R K F k
theorem jx_twists (hM : ∀ a, md a = true → a < M0.1) (hE : jExt md c s M0 M) (h : jTb t R K F (jMk md M.2.2)) (hR : R ≤ 50) (hK : K ≤ 50) (hN : 1180591620717411303424 < N) (hs : smallA R K F) (hm : lowM R K F) :
    jo (jf_X11_twists N t) M (fun r M' => ∃ q k a, r = some q ∧ twN R K k F a ∧ jRow q k a (jMk md M'.2.2) ∧ jSub (jMk md M.2.2) (jMk md M'.2.2) ∧ jExt md (c + 4 + R) (s + 3 + R + R + R + R * (K + 1)) M0 M') := by
  unfold jf_X11_twists
  refine jT_rows (h.sub jMk.sub) (jo_ck (ckL (by omega)) ?_)
  rw [nI_tc (by omega)]
  refine jX_al (hE.md hM) hE fun q M1 hq _ e1 E1 => ?_
  have s1 : jSub (jMk md M.2.2) (jMk md M1.2.2) := by rw [e1]; exact jSub.new hq
  refine jT_cl ((h.sub s1).sub jMk.sub) (jo_bd (jo_mono (jx_and (v := fun _ => 0) hM E1 (h.sub s1) hR hK (by omega) (g := fun _ => 0) (by rw [e1, va_up_self]) (fun _ _ => rfl)) ?_))
  rintro r M2 ⟨t2, ar, rr, rf, rfl, h2, E2⟩
  refine jN_cl h2.md (jo_bd (jo_mono (jx_diag hR hK hN (hs _ (fun x y _ hy => by unfold andT; rw [if_pos hy])) h2 E2) ?_))
  rintro r M3 ⟨k, G, rr3, rf3, rfl, k1, k2, k3, k4, h3, E3⟩
  have ⟨f1, f2⟩ := rch_end k3 k1 k2 k4
  have f3 := rch_rank k3 k1 k2 k4
  have f4 : ∀ z x, dv z R K F x ↔ dvP z k (fun i => G i i) x := fun z x => by
    rw [← f2 z x]
    exact ⟨dv_cg (fun i j hi hj => by unfold andT; rw [if_pos hj]), dv_cg (fun i j hi hj => by unfold andT; rw [if_pos hj])⟩
  have f5 := top_lt hm k1 k2 f1 f4
  have f6 : ∀ i, i < k → 0 < ((G i i).natAbs : Int) := fun i hi => by have := f1 i hi; omega
  have s3 : jSub (jMk md M.2.2) (jMk md M3.2.2) := s1.tr h3.2.2.2.2
  refine jo_ck (ckL (by omega)) ?_
  rw [nI_tc (by omega)]
  refine jX_al (E3.md hM) E3 fun q2 M4 hq2 _ e4 E4 => ?_
  have n0 : (jMk md M.2.2) q2 = none := by
    cases hh : jMk md M.2.2 q2 with
    | none => rfl
    | some e => have := s3 _ _ hh; rw [hq2] at this; cases this
  have s4 : jSub (jMk md M3.2.2) (jMk md M4.2.2) := by rw [e4]; exact jSub.new hq2
  refine jo_bd (jo_mono (jo_up k (fun i z M' => z = nI i ∧ jSub (jMk md M3.2.2) (jMk md M'.2.2) ∧ (∃ g, jMk md M'.2.2 q2 = some (aJ k g) ∧ ∀ x, x < i → g x = jI (G x x).natAbs) ∧ jExt md (c + 4 + R) (s + 3 + R + R + R + R * (K + 1)) M0 M') (fun _ M' => jRow q2 k (fun i => ((G i i).natAbs : Int)) (jMk md M'.2.2) ∧ jSub (jMk md M.2.2) (jMk md M'.2.2) ∧ jExt md (c + 4 + R) (s + 3 + R + R + R + R * (K + 1)) M0 M') ?_ ?_ N 0 _ M4 ⟨rfl, s4, ⟨_, by rw [e4, va_up_self], fun x hx => by omega⟩, E4.mono (by omega) (by show s + R + 3 + R + R * (K + 1) + k ≤ _; omega)⟩ (Nat.zero_le _) (by omega)) ?_)
  · rintro i z M5 hi ⟨rfl, h50, ⟨g, g1, g2⟩, E5⟩
    have h5 := h3.to h50
    unfold jf_X11_twists_L23
    refine jo_f (by rw [nI_leI (by omega) (by omega)]; omega) (jN_at h5.md (jN_row h5.md rfl (by omega) (by omega) (jN_ld h5.md rfl (by omega) (by omega) (by omega) (jo_lt ?_))))
    have b1 := pr_one f6 hi
    rw [jI_abs (by omega)]
    refine jX_wr (jl_st (mkg g1).2 (jm_ixn hi (by omega))) g1 E5 (fun M6 e6 E6 => jo_ret ⟨by rw [nI_1], ?_, ⟨_, by rw [e6, va_up_self], fun x hx => ?_⟩, E6⟩)
    · rw [e6]; exact h50.wr hq2
    · unfold vp_updL
      by_cases xi : x = i
      · subst xi; rw [if_pos rfl]
      · rw [if_neg xi]; exact g2 x (by omega)
  · rintro z M5 ⟨rfl, h50, ⟨g, g1, g2⟩, E5⟩
    have h5 := h3.to h50
    unfold jf_X11_twists_L23
    exact jo_t (by rw [nI_leI (by omega) (by omega)]; omega) (jo_ret ⟨⟨g, g1, g2⟩, s1.tr h5.2.2.2.2, E5⟩)
  · rintro _ M5 ⟨h5, s5, E5⟩
    unfold jf_X11_twists_k23_52 jf_X11_twists_k55_120
    refine jo_bd (jo_mono (jx_twLL n0 (by omega) f5 (by omega) k 0 N _ M5 (by omega) (by omega) ⟨f6, rfl, fun _ _ => Iff.rfl⟩ (gl_start k _) h5 s5 E5) ?_)
    rintro _ M6 ⟨a, g1, g2, g3, g4, g5⟩
    exact jo_ret ⟨q2, k, a, rfl, ⟨k1, k2, g1.1, g2, by rw [g1.2.1]; exact f5, fun z x => ((f4 z x).trans dvP_abs.symm).trans (g1.2.2 z x).symm, isRk_and f3⟩, g3, g4, g5⟩
end TW
