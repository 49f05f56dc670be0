/-! PLAIN LAW, 93.v: a diagonal with a column beside it; the order of a column (no program in sight) -/
theorem mn_col0 {n : Nat} {A : Nat → Nat → Int} {t : Nat} {u : Nat → Int} (ht : t < n) (h : ∀ i, i < n → u i = 0) : mn n (cwd A t u) = 0 := by
  have e : mn n (cwd A t u) = mn n (cwd A t (fun i => 0 * u i + 0 * u i)) := mn_cg (fun i j hi _ => by
    unfold cwd
    by_cases c : j = t
    · rw [if_pos c, if_pos c]; dsimp only; rw [h i hi]; rfl
    · rw [if_neg c, if_neg c])
  rw [e, mn_col ht]; omega
theorem mn_colsum {n m : Nat} {A : Nat → Nat → Int} {t : Nat} {w : Nat → Int} {u : Nat → Nat → Int} (ht : t < n) : mn n (cwd A t (fun i => jsum m (fun c => w c * u c i))) = jsum m (fun c => w c * mn n (cwd A t (u c))) := by
  induction m with
  | zero => exact mn_col0 ht (fun _ _ => rfl)
  | succ m ih =>
    have e : (fun i => jsum (m + 1) (fun c => w c * u c i)) = (fun i => 1 * (jsum m (fun c => w c * u c i)) + w m * u m i) := by funext i; rw [ds_succ]; omega
    rw [e, mn_col ht, ih, ds_succ]; omega
def eU (c : Nat) : Nat → Int := fun i => if i = c then 1 else 0
theorem eU_sum {k a : Nat} {w : Nat → Int} (h : a < k ∨ w a = 0) : w a = jsum k (fun c => w c * eU c a) := by
  by_cases c : a < k
  · rw [ds_one c (fun x _ hx => by unfold eU; rw [if_neg (fun y => hx y.symm)]; omega)]
    unfold eU; rw [if_pos rfl]; omega
  · rw [ds_0 (fun x hx => by unfold eU; rw [if_neg (by omega)]; omega)]
    exact h.resolve_left c
theorem cwd_cg {n t : Nat} {A : Nat → Nat → Int} {u v : Nat → Int} (h : ∀ i, i < n → u i = v i) : mn n (cwd A t u) = mn n (cwd A t v) := mn_cg (fun i j hi _ => by
  unfold cwd
  by_cases c : j = t
  · rw [if_pos c, if_pos c, h i hi]
  · rw [if_neg c, if_neg c])
theorem mn_rep {n j : Nat} {d w : Nat → Int} (hj : j < n) (hd : ∀ i, i < n → d i ≠ 0) : mn n (cwd (dgM n d) j w) = w j * pr n (upI d j 1) := by
  rw [cwd_cg (fun i hi => eU_sum (k := n) (.inl hi)), mn_colsum hj]
  have e1 : mn n (cwd (dgM n d) j (eU j)) = pr n (upI d j 1) := by
    rw [show mn n (cwd (dgM n d) j (eU j)) = mn n (fun a b => dgM n (upI d j 1) ((fun z => z) a) ((fun z => z) b)) from mn_cg (fun a b ha hb => ?_)]
    · exact mn_dgp (s := fun z => z) (fun a b _ _ h => h) (fun a h => h)
    · unfold cwd dgM eU upI
      by_cases c : b = j
      · subst c
        by_cases c2 : a = b
        · rw [if_pos rfl, if_pos c2, if_pos ⟨c2, ha⟩, if_pos c2]
        · rw [if_pos rfl, if_neg c2, if_neg (fun y => c2 y.1)]
      · rw [if_neg c]
        by_cases c2 : a = b
        · rw [if_pos ⟨c2, ha⟩, if_pos ⟨c2, ha⟩, if_neg (fun y => c ((show a = b from c2) ▸ y))]
        · rw [if_neg (fun y => c2 y.1), if_neg (fun y => c2 y.1)]
  rw [ds_one hj (fun c hc hn => ?_), e1]
  have h0 : d c * mn n (cwd (dgM n d) j (eU c)) = 0 := by
    have e := mn_col (n := n) (A := dgM n d) (t := j) (u := eU c) (v := eU c) (x := d c) (y := 0) hj
    rw [show d c * mn n (cwd (dgM n d) j (eU c)) = d c * mn n (cwd (dgM n d) j (eU c)) + 0 * mn n (cwd (dgM n d) j (eU c)) by omega, ← e]
    refine mn_ceq2 hj hc (fun y => hn y.symm) (fun i hi => ?_)
    unfold cwd dgM eU
    rw [if_pos rfl, if_neg hn]
    dsimp only
    by_cases ci : i = c
    · rw [if_pos ci, if_pos ⟨ci, hi⟩, ci]; omega
    · rw [if_neg ci, if_neg (fun y => ci y.1)]; omega
  rcases Int.mul_eq_zero.mp h0 with h | h
  · exact absurd h (hd c hc)
  · rw [h]; omega
/-- a diagonal with a column beside it -/
def dgW (R K k : Nat) (d w : Nat → Int) (G : Nat → Nat → Int) : Prop := k ≤ R ∧ k ≤ K ∧ (∀ x y, x < R → y < K → G x y = dgM k d x y) ∧ (∀ x, x < R → G x K = w x) ∧ ∀ i, i < k → d i ≠ 0
theorem dgW_dv {R K k : Nat} {d w : Nat → Int} {G : Nat → Nat → Int} (h : dgW R K k d w G) (hw : ∀ x, k ≤ x → x < R → w x = 0) {x : Int} : dv k R (K + 1) G x ↔ x ∣ pr k d ∧ ∀ j, j < k → x ∣ w j * pr k (upI d j 1) := by
  obtain ⟨h1, h2, h3, h4, h5⟩ := h
  constructor
  · intro g
    refine ⟨?_, fun j hj => ?_⟩
    · have := g (fun a => a) (fun a => a) (fun a _ => by omega) (fun a _ => by omega)
      rw [show mn k (fun a b => G a b) = mn k (fun a b => dgM k d ((fun z => z) a) ((fun z => z) b)) from mn_cg (fun a b ha hb => h3 a b (by omega) (by omega))] at this
      rwa [mn_dgp (s := fun z => z) (fun a b _ _ h => h) (fun a h => h)] at this
    · have := g (fun a => a) (fun b => if b = j then K else b) (fun a _ => by omega) (fun b _ => by split <;> omega)
      rw [show mn k (fun a b => G a (if b = j then K else b)) = mn k (cwd (dgM k d) j w) from mn_cg (fun a b ha hb => by
        unfold cwd
        by_cases c : b = j
        · rw [if_pos c, if_pos c]; exact h4 a (by omega)
        · rw [if_neg c, if_neg c]; exact h3 a b (by omega) (by omega))] at this
      rwa [mn_rep hj h5] at this
  · rintro ⟨g1, g2⟩
    rw [dv_inc]
    intro σ τ s1 s2 t1 t2
    have hD : dv k R K (dgM k d) (pr k d) := (dv_dg h1 h2).mpr (dvP_top.mpr (Int.dvd_refl _))
    by_cases c : ∃ t, t < k ∧ τ t = K
    · obtain ⟨t, ht, tk⟩ := c
      have to : ∀ b, b < k → b ≠ t → τ b < K := fun b hb hn => by
        have := t2 b hb
        rcases Nat.lt_or_gt_of_ne hn with l | l
        · have := inc_mono t1 l ht; omega
        · have := inc_mono t1 l hb; omega
      rw [show mn k (fun a b => G (σ a) (τ b)) = mn k (cwd (fun a b => dgM k d (σ a) (τ b)) t (fun a => jsum k (fun c => w c * eU c (σ a)))) from mn_cg (fun a b ha hb => by
        unfold cwd
        by_cases c : b = t
        · rw [if_pos c, c, tk, h4 _ (s2 a ha)]
          exact eU_sum (by
            by_cases l : σ a < k
            · exact .inl l
            · exact .inr (hw _ (by omega) (s2 a ha)))
        · rw [if_neg c]; exact h3 _ _ (s2 a ha) (to b hb c))]
      rw [mn_colsum ht (u := fun c a => eU c (σ a))]
      refine dvd_ds (fun c hc => ?_)
      have e1 : pr k d ∣ d c * mn k (cwd (fun a b => dgM k d (σ a) (τ b)) t (fun a => eU c (σ a))) := by
        have e := mn_col (n := k) (A := fun a b => dgM k d (σ a) (τ b)) (t := t) (u := fun a => eU c (σ a)) (v := fun a => eU c (σ a)) (x := d c) (y := 0) ht
        rw [show d c * mn k (cwd (fun a b => dgM k d (σ a) (τ b)) t (fun a => eU c (σ a))) = d c * mn k (cwd (fun a b => dgM k d (σ a) (τ b)) t (fun a => eU c (σ a))) + 0 * mn k (cwd (fun a b => dgM k d (σ a) (τ b)) t (fun a => eU c (σ a))) by omega, ← e]
        have := hD σ (fun b => if b = t then c else τ b) s2 (fun b hb => by
          split
          · omega
          · exact to b hb (by assumption))
        rwa [show mn k (fun a b => dgM k d (σ a) (if b = t then c else τ b)) = mn k (cwd (fun a b => dgM k d (σ a) (τ b)) t (fun i => d c * eU c (σ i) + 0 * eU c (σ i))) from mn_cg (fun a b ha hb => by
          unfold cwd
          by_cases cb : b = t
          · rw [if_pos cb, if_pos cb]
            unfold dgM eU
            dsimp only
            by_cases ca : σ a = c
            · rw [if_pos ⟨ca, by omega⟩, if_pos ca, ca]; omega
            · rw [if_neg (fun y => ca y.1), if_neg ca]; omega
          · rw [if_neg cb, if_neg cb])] at this
      have e2 := pr_upI (d := d) (v := 1) k hc
      rw [Int.mul_one] at e2
      rw [← e2, Int.mul_comm] at e1
      have e3 := Int.dvd_of_mul_dvd_mul_left (h5 c hc) e1
      exact Int.dvd_trans (g2 c hc) (Int.mul_dvd_mul_left _ e3)
    · have hb : ∀ b, b < k → τ b < K := fun b hb => by
        have := t2 b hb
        have : τ b ≠ K := fun y => c ⟨b, hb, y⟩
        omega
      rw [show mn k (fun a b => G (σ a) (τ b)) = mn k (fun a b => dgM k d (σ a) (τ b)) from mn_cg (fun a b ha hb' => h3 _ _ (s2 a ha) (hb b hb'))]
      exact Int.dvd_trans g1 (hD σ τ s2 hb)
theorem mn_row0 {n : Nat} {A : Nat → Nat → Int} {t : Nat} (ht : t < n) (h : ∀ j, j < n → A t j = 0) : mn n A = 0 := by
  have e := mn_row (n := n) (A := A) (t := t) (u := fun _ => 0) (v := fun _ => 0) (x := 0) (y := 0) ht
  rw [rwd_same (fun j hj => by rw [h j hj]; rfl)] at e
  rw [e]; omega
theorem dgW_rk {R K k : Nat} {d w : Nat → Int} {G : Nat → Nat → Int} (h : dgW R K k d w G) (hw : ∀ x, k ≤ x → x < R → w x = 0) : isRk R (K + 1) G k := by
  refine ⟨h.1, by have := h.2.1; omega, fun y => ?_, fun q hq σ τ hs ht => ?_⟩
  · have := ((dgW_dv h hw).mp y).1
    exact pr_ne h.2.2.2.2 (Int.zero_dvd.mp this)
  · have : mn q (fun a b => G (σ a) (τ b)) = 0 := by
      by_cases c : ij q σ
      · have : ∃ a, a < q ∧ k ≤ σ a := by
          refine Classical.byContradiction fun y => ?_
          have := pigeon q k σ c (fun a ha => Nat.lt_of_not_le fun z => y ⟨a, ha, z⟩)
          omega
        obtain ⟨a, ha, hk⟩ := this
        refine mn_row0 ha (fun b hb => ?_)
        by_cases cb : τ b < K
        · rw [h.2.2.1 _ _ (hs a ha) cb]
          unfold dgM; rw [if_neg (by omega)]
        · have : τ b = K := by have := ht b hb; omega
          rw [this, h.2.2.2.1 _ (hs a ha), hw _ hk (hs a ha)]
      · exact mn_nij c
    rw [this]; exact Int.dvd_refl _
theorem dgW_rk1 {R K k i : Nat} {d w : Nat → Int} {G : Nat → Nat → Int} (h : dgW R K k d w G) (h1 : k ≤ i) (h2 : i < R) (hw : w i ≠ 0) : ¬ dv (k + 1) R (K + 1) G 0 := by
  intro y
  have hK := h.2.1
  have := y (fun a => if a < k then a else i) (fun b => if b < k then b else K) (fun a _ => by split <;> omega) (fun b _ => by split <;> omega)
  rw [show mn (k + 1) (fun a b => G (if a < k then a else i) (if b < k then b else K)) = mn (k + 1) (cwd (dgM (k + 1) (upI d k 1)) k (fun a => if a < k then w a else w i)) from mn_cg (fun a b ha hb => by
    unfold cwd
    by_cases cb : b = k
    · rw [if_pos cb, if_neg (show ¬ b < k by omega)]
      by_cases ca : a < k
      · rw [if_pos ca]; dsimp only; rw [if_pos ca]; exact h.2.2.2.1 a (by omega)
      · rw [if_neg ca]; dsimp only; rw [if_neg ca]; exact h.2.2.2.1 i h2
    · rw [if_neg cb, if_pos (show b < k by omega)]
      by_cases ca : a < k
      · rw [if_pos ca, h.2.2.1 _ _ (by omega) (by omega)]
        unfold dgM upI
        by_cases ab : a = b
        · rw [if_pos ⟨ab, ca⟩, if_pos ⟨ab, ha⟩, if_neg (by omega)]
        · rw [if_neg (fun y => ab y.1), if_neg (fun y => ab y.1)]
      · rw [if_neg ca, h.2.2.1 _ _ h2 (by omega)]
        unfold dgM
        rw [if_neg (by omega), if_neg (by omega)])] at this
  rw [mn_rep (show k < k + 1 by omega) (fun x hx => by
    unfold upI
    by_cases c : x = k
    · rw [if_pos c]; decide
    · rw [if_neg c]; exact h.2.2.2.2 x (by omega))] at this
  rw [if_neg (Nat.lt_irrefl k)] at this
  have z := Int.zero_dvd.mp this
  rcases Int.mul_eq_zero.mp z with c | c
  · exact hw c
  · refine pr_ne (n := k + 1) (f := upI (upI d k 1) k 1) (fun x hx => ?_) c
    unfold upI
    by_cases c : x = k
    · rw [if_pos c]; decide
    · rw [if_neg c, if_neg c]; exact h.2.2.2.2 x (by omega)
/-- the order of a column: a least common multiple -/
theorem ord_arith {k : Nat} {d w n g e : Nat → Int} {P L : Int} (hP : P ≠ 0) (he : ∀ j, j < k → e j * d j = P) (hg : ∀ j, j < k → g j ∣ d j ∧ g j ∣ w j ∧ ∃ u v, g j = u * d j + v * w j) (hn : ∀ j, j < k → n j * g j = d j ∨ n j * g j = - d j) (hL : ∀ y, L ∣ y ↔ ∀ j, j < k → n j ∣ y) :
    ∃ M, P = L * M ∧ ∀ x, (x ∣ P ∧ ∀ j, j < k → x ∣ w j * e j) ↔ x ∣ M := by
  have nP : ∀ j, j < k → n j ∣ P := fun j hj => by
    rcases hn j hj with c | c
    · exact ⟨g j * e j, by rw [← he j hj, ← c]; grind⟩
    · exact ⟨- (g j * e j), by rw [← he j hj, show d j = - (n j * g j) by omega]; grind⟩
  obtain ⟨M, hM⟩ := (hL P).mpr nP
  have L0 : L ≠ 0 := fun y => hP (by rw [hM, y]; omega)
  refine ⟨M, hM, fun x => ⟨fun ⟨h1, h2⟩ => ?_, fun h => ⟨by rw [hM]; exact Int.dvd_trans h (Int.dvd_mul_left L M), fun j hj => ?_⟩⟩⟩
  · obtain ⟨y, hy⟩ := h1
    have x0 : x ≠ 0 := fun z => hP (by rw [hy, z]; omega)
    have hLy : L ∣ y := (hL y).mpr (fun j hj => by
      obtain ⟨g1, g2, u, v, g3⟩ := hg j hj
      have h3 : x ∣ g j * e j := by
        rw [g3, show (u * d j + v * w j) * e j = u * (e j * d j) + v * (w j * e j) by grind, he j hj]
        exact Int.dvd_add (Int.dvd_trans ⟨y, hy⟩ (Int.dvd_mul_left u P)) (Int.dvd_trans (h2 j hj) (Int.dvd_mul_left v _))
      obtain ⟨z, hz⟩ := h3
      rcases hn j hj with c | c
      · refine ⟨z, Int.eq_of_mul_eq_mul_left x0 ?_⟩
        rw [← hy, ← he j hj, ← c, show x * (n j * z) = n j * (x * z) by grind, ← hz]; grind
      · refine ⟨- z, Int.eq_of_mul_eq_mul_left x0 ?_⟩
        rw [← hy, ← he j hj, show d j = - (n j * g j) by omega, show x * (n j * - z) = - (n j * (x * z)) by grind, ← hz]; grind)
    obtain ⟨t, ht⟩ := hLy
    refine ⟨t, Int.eq_of_mul_eq_mul_left L0 ?_⟩
    rw [← hM, hy, ht]; grind
  · obtain ⟨g1, g2, _⟩ := hg j hj
    obtain ⟨t, ht⟩ := (hL L).mp (Int.dvd_refl L) j hj
    have n0 : n j ≠ 0 := fun y => L0 (by rw [ht, y]; omega)
    have h3 : M ∣ g j * e j := by
      rcases hn j hj with c | c
      · refine ⟨t, Int.eq_of_mul_eq_mul_left n0 ?_⟩
        rw [show n j * (g j * e j) = e j * (n j * g j) by grind, c, he j hj, hM, ht]; grind
      · refine ⟨- t, Int.eq_of_mul_eq_mul_left n0 ?_⟩
        rw [show n j * (g j * e j) = e j * (n j * g j) by grind, c, show e j * - d j = - (e j * d j) by grind, he j hj, hM, ht]; grind
    exact Int.dvd_trans h (Int.dvd_trans h3 (Int.mul_dvd_mul_right _ g2))
