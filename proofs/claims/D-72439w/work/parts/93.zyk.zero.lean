/-! SIZES, 93.zyk: rows and columns of 0 do not count (no program in sight) -/
noncomputable def ozr (K' k w : Nat) (F : Nat → Nat → Int) (l : Nat) : Nat := @ite Nat (∃ y, k ≤ y ∧ y < K' ∧ F l y ≠ 0) (Classical.propDecidable _) w 1
theorem ozr_n {K' k w l : Nat} {F : Nat → Nat → Int} (h : ∃ y, k ≤ y ∧ y < K' ∧ F l y ≠ 0) : ozr K' k w F l = w := by unfold ozr; rw [if_pos h]
theorem ozr_z {K' k w l : Nat} {F : Nat → Nat → Int} (h : ¬ ∃ y, k ≤ y ∧ y < K' ∧ F l y ≠ 0) : ozr K' k w F l = 1 := by unfold ozr; rw [if_neg h]
theorem ozr_le {K' k w l : Nat} {F : Nat → Nat → Int} (w0 : 0 < w) : 0 < ozr K' k w F l ∧ ozr K' k w F l ≤ w := by
  by_cases c : ∃ y, k ≤ y ∧ y < K' ∧ F l y ≠ 0
  · rw [ozr_n c]; exact ⟨w0, Nat.le_refl _⟩
  · rw [ozr_z c]; omega
theorem ozr_3 {R K' k w : Nat} {F : Nat → Nat → Int} {σ τ : Nat → Nat} (ht : inr k K' 3 τ) (hm : mn 3 (fun a b => F (σ a) (τ b)) ≠ 0) : npr 3 (fun a => ozr K' k w F (σ a)) = w ^ 3 := by
  rw [npr_cg (g := fun _ => w) (fun a ha => ozr_n (Classical.byContradiction fun c => hm (mn_row0 ha (fun j hj => Classical.byContradiction fun z => c ⟨τ j, (ht j hj).1, (ht j hj).2, z⟩)))), npr_c]
/-- P3 from the numbers of rows and columns other than 0 -/
theorem P3z_of {R K' k N M q w a b : Nat} {F : Nat → Nat → Int} (hv : bdM 4 R K' k F 0) (h3 : bdM 3 R K' k F N) (h2 : bdM 2 R K' k F M) (hq : lsB R K' k F q) (hw : 2 * q ≤ w) (w0 : 0 < w)
    (hR : Wt k R (ozr K' k w F) ≤ w ^ (3 + a)) (hK : Wt k K' (ozr R k w (fun x y => F y x)) ≤ w ^ (3 + b)) (T Q : Nat) (hT : M + hs (N * w ^ (a + b)) q ≤ T) (hQ : q ≤ Q) (h1 : bdM 1 R K' k F (T + Q)) : P3 R K' (N * w ^ (a + b)) T Q k F := by
  have ok : ∀ (R K' : Nat) (F : Nat → Nat → Int), lsB R K' k F q → ∀ l, k ≤ l → l < R → 0 < ozr K' k w F l ∧ rowOK R K' k F (ozr K' k w F) l := by
    intro R K' F hq l hl hR
    refine ⟨(ozr_le w0).1, ?_⟩
    by_cases c : ∃ y, k ≤ y ∧ y < K' ∧ F l y ≠ 0
    · rcases hq with z | ⟨x, y, a, b, d⟩
      · obtain ⟨y, y1, y2, y3⟩ := c
        exact absurd (z l y ⟨hl, hR, y1, y2⟩) y3
      · exact .inr ⟨x, y, a, b, by rw [ozr_n c]; omega⟩
    · have z : ∀ y, k ≤ y → y < K' → F l y = 0 := fun y y1 y2 => Classical.byContradiction fun y3 => c ⟨y, y1, y2, y3⟩
      exact .inl fun y y1 y2 => ⟨by rw [z y y1 y2]; exact Nat.zero_le _, fun d => absurd (z y y1 y2) d⟩
  have hq' : lsB K' R k (fun x y => F y x) q := by
    rcases hq with z | ⟨x, y, a, b, d⟩
    · exact .inl fun x y h => z y x ⟨h.2.2.1, h.2.2.2, h.1, h.2.1⟩
    · exact .inr ⟨y, x, ⟨a.2.2.1, a.2.2.2, a.1, a.2.1⟩, b, d⟩
  refine ⟨ozr K' k w F, ozr R k w (fun x y => F y x), M, q, van_bd.mpr hv, ok R K' F hq, ok K' R _ hq', ?_, h2, hT, hQ, h1, hq⟩
  intro σ τ hs ht
  by_cases hm : mn 3 (fun a b => F (σ a) (τ b)) = 0
  · rw [hm]; simp
  · have e1 := ozr_3 (R := R) (w := w) ht hm
    have e2 := ozr_3 (R := K') (K' := R) (w := w) (F := fun x y => F y x) (σ := τ) (τ := σ) hs (by rw [mn_tr (A := fun a b => F (σ a) (τ b))]; exact hm)
    rw [e1, e2]
    have h := Nat.mul_le_mul (h3 σ τ hs ht) (Nat.mul_le_mul hR hK)
    refine Nat.le_trans h (Nat.le_of_eq ?_)
    rw [Nat.pow_add, Nat.pow_add, Nat.pow_add]
    ac_rfl
/-- as many rows other than 0 -/
theorem wt_le {R K' k w n : Nat} {F : Nat → Nat → Int} (w0 : 0 < w) (h : nsm (R - k) (fun i => @ite Nat (∃ y, k ≤ y ∧ y < K' ∧ F (k + i) y ≠ 0) (Classical.propDecidable _) 1 0) ≤ n) : Wt k R (ozr K' k w F) ≤ w ^ n := by
  have key : ∀ m, npr m (fun i => ozr K' k w F (k + i)) = w ^ nsm m (fun i => @ite Nat (∃ y, k ≤ y ∧ y < K' ∧ F (k + i) y ≠ 0) (Classical.propDecidable _) 1 0) := by
    intro m
    induction m with
    | zero => rfl
    | succ m ih =>
      show npr m _ * ozr K' k w F (k + m) = w ^ (nsm m _ + _)
      rw [ih, Nat.pow_add]
      congr 1
      by_cases c : ∃ y, k ≤ y ∧ y < K' ∧ F (k + m) y ≠ 0
      · dsimp only
        rw [ozr_n c, if_pos c, Nat.pow_one]
      · dsimp only
        rw [ozr_z c, if_neg c, Nat.pow_zero]
  unfold Wt
  rw [key]
  exact Nat.pow_le_pow_right w0 h
/-- minors of size 4 come to nothing, n rows and columns other than 0 -/
theorem smallA_3z {R m q a b E n : Nat} {A : Nat → Nat → Int} (hs : ∀ i j, i < R → j < R → A i j = A j i) (h4 : bdM 4 R R 0 A 0) (h3 : bdM 3 R R 0 A b) (h2 : bdM 2 R R 0 A a) (h1 : bdM 1 R R 0 A E) (hq : lsB R R 0 A q) (hqm : q ≤ 2 ^ m) (hE : E ≤ a + q)
    (hn : nsm R (fun i => @ite Nat (∃ y, y < R ∧ A i y ≠ 0) (Classical.propDecidable _) 1 0) ≤ 3 + n) (hok : a + (4 * (m + 1) + 1) * (b * (2 * (q + 1)) ^ (n + n)) + q < 9223372036854775808) : smallA R R A := by
  intro F0 hF k F hr i j hij
  have e0 := inn_ag hF
  have w := hs_log (Kc := b * (2 * (q + 1)) ^ (n + n)) hqm
  have e2 : (4 * (m + 1) + 1) * (b * (2 * (q + 1)) ^ (n + n)) = 4 * (b * (2 * (q + 1)) ^ (n + n)) * (m + 1) + b * (2 * (q + 1)) ^ (n + n) := by
    rw [Nat.add_mul, Nat.one_mul, Nat.mul_right_comm]
  rw [e2] at hok
  have hq' : lsB R R 0 F0 q := by
    rcases hq with z | ⟨x, y, u, v, w⟩
    · exact .inl fun x y h => by rw [← e0 x y h]; exact z x y h
    · exact .inr ⟨x, y, u, by rw [← e0 x y u]; exact v, by rw [← e0 x y u]; exact w⟩
  have cnt : ∀ G : Nat → Nat → Int, (∀ x y, x < R → y < R → G x y ≠ 0 → A x y ≠ 0) → nsm (R - 0) (fun i => @ite Nat (∃ y, 0 ≤ y ∧ y < R ∧ G (0 + i) y ≠ 0) (Classical.propDecidable _) 1 0) ≤ 3 + n := by
    intro G hG
    refine Nat.le_trans (nsm_le fun i hi => ?_) hn
    by_cases c : ∃ y, 0 ≤ y ∧ y < R ∧ G (0 + i) y ≠ 0
    · obtain ⟨y, _, y2, y3⟩ := c
      rw [Nat.zero_add] at y3
      rw [if_pos ⟨y, Nat.zero_le _, y2, by rw [Nat.zero_add]; exact y3⟩, if_pos ⟨y, y2, hG i y hi y2 y3⟩]
      exact Nat.le_refl _
    · rw [if_neg c]; exact Nat.zero_le _
  have h := P3z_of (k := 0) (w := 2 * (q + 1)) (a := n) (b := n) (bdM_cg e0 h4) (bdM_cg e0 h3) (bdM_cg e0 h2) hq' (by omega) (by omega)
    (wt_le (by omega) (cnt F0 fun x y hx hy z => by rw [← hF x y hx hy]; exact z))
    (wt_le (F := fun x y => F0 y x) (by omega) (cnt (fun x y => F0 y x) fun x y hx hy z => by rw [hs x y hx hy, ← hF y x hy hx]; exact z))
    (a + 4 * (b * (2 * (q + 1)) ^ (n + n)) * (m + 1)) q (by omega) (Nat.le_refl _) (bdM_mono (bdM_cg e0 h1) (by omega))
  have := hr (PP3 R R _ _ _ _) (.inl h) PP3_clo
  exact PP3_small this (by omega) (by omega) i j hij
