/-! SIZES, 93.zyg: runs with few failing steps in the first stage (no program in sight) -/
/-- too few columns: minors of more come to nothing -/
theorem bdM_few {n R K' k : Nat} {F : Nat → Nat → Int} (n0 : 0 < n) (h : K' < n + k) : bdM n R K' k F 0 := fun σ τ _ ht => by
  rw [mn_nijc fun c => by
    have := pigeon n (K' - k) (fun a => τ a - k) (fun a b ha hb e => c a b ha hb (by have := ht a ha; have := ht b hb; simp only at e; omega)) (fun a ha => by have := ht a ha; show τ a - k < K' - k; omega)
    omega]
  exact Nat.zero_le _
theorem bdM_fewR {n R K' k : Nat} {F : Nat → Nat → Int} (n0 : 0 < n) (h : R < n + k) : bdM n R K' k F 0 := bdM_tr (bdM_few (R := K') (K' := R) n0 h)
theorem hs_dbl {Kc n : Nat} : hs Kc (2 * n) ≤ hs Kc n + 4 * Kc := by
  have key : ∀ d, hs Kc (n + d) * (n + 1) ≤ hs Kc n * (n + 1) + d * (4 * Kc) := by
    intro d
    induction d with
    | zero => simp
    | succ d ih =>
      show (hs Kc (n + d) + 4 * Kc / (n + d + 1)) * (n + 1) ≤ _
      rw [Nat.add_mul, Nat.add_mul]
      have h1 := Nat.div_mul_le_self (4 * Kc) (n + d + 1)
      have h2 : 4 * Kc / (n + d + 1) * (n + 1) ≤ 4 * Kc / (n + d + 1) * (n + d + 1) := Nat.mul_le_mul_left _ (by omega)
      omega
  have h := key n
  rw [show n + n = 2 * n by omega] at h
  have h2 : hs Kc (2 * n) * (n + 1) ≤ (hs Kc n + 4 * Kc) * (n + 1) := by
    rw [Nat.add_mul]
    have : n * (4 * Kc) ≤ 4 * Kc * (n + 1) := by rw [Nat.mul_comm]; exact Nat.mul_le_mul_left _ (by omega)
    omega
  exact Nat.le_of_mul_le_mul_right h2 (by omega)
theorem hs_mn {Kc p q : Nat} (h : p ≤ q) : hs Kc p ≤ hs Kc q := by
  obtain ⟨d, rfl⟩ : ∃ d, q = p + d := ⟨q - p, by omega⟩
  clear h
  induction d with
  | zero => exact Nat.le_refl _
  | succ d ih => exact Nat.le_trans ih (Nat.le_add_right _ _)
/-- the sum of fractions grows as the length of the number does -/
theorem hs_log {Kc m q : Nat} (h : q ≤ 2 ^ m) : hs Kc q ≤ 4 * Kc * (m + 1) := by
  refine Nat.le_trans (hs_mn h) ?_
  clear h
  induction m with
  | zero => show 0 + 4 * Kc / (0 + 1) ≤ 4 * Kc * (0 + 1); rw [Nat.zero_add, Nat.zero_add, Nat.div_one, Nat.mul_one]; exact Nat.le_refl _
  | succ m ih =>
    have := hs_dbl (Kc := Kc) (n := 2 ^ m)
    rw [← Nat.pow_succ'] at this
    have e : 4 * Kc * (m + 1 + 1) = 4 * Kc * (m + 1) + 4 * Kc := by rw [Nat.mul_add (4 * Kc) (m + 1) 1, Nat.mul_one]
    rw [e]
    exact Nat.le_trans this (Nat.add_le_add_right ih _)
theorem P3_of {R K' k N M q w : Nat} {F : Nat → Nat → Int} (hv : bdM 4 R K' k F 0) (h3 : bdM 3 R K' k F N) (h2 : bdM 2 R K' k F M) (hq : lsB R K' k F q) (hw : 2 * q ≤ w) (w0 : 0 < w) (T Q : Nat) (hT : M + hs (N * w ^ ((R - k - 3) + (K' - k - 3))) q ≤ T) (hQ : q ≤ Q) (h1 : bdM 1 R K' k F (T + Q)) : P3 R K' (N * w ^ ((R - k - 3) + (K' - k - 3))) T Q k F := by
  refine ⟨fun _ => w, fun _ => w, M, q, van_bd.mpr hv, ?_, ?_, ?_, h2, hT, hQ, h1, hq⟩
  · intro l hl hR
    refine ⟨w0, ?_⟩
    rcases hq with z | ⟨x, y, a, b, c⟩
    · exact .inl fun y hy hK => ⟨by rw [z l y ⟨hl, hR, hy, hK⟩]; exact Nat.zero_le _, fun c => absurd (z l y ⟨hl, hR, hy, hK⟩) c⟩
    · exact .inr ⟨x, y, a, b, by show 2 * (F x y).natAbs ≤ w; omega⟩
  · intro l hl hR
    refine ⟨w0, ?_⟩
    rcases hq with z | ⟨x, y, a, b, c⟩
    · exact .inl fun y hy hK => ⟨by show (F y l).natAbs ≤ w; rw [z y l ⟨hy, hK, hl, hR⟩]; exact Nat.zero_le _, fun c => absurd (z y l ⟨hy, hK, hl, hR⟩) c⟩
    · exact .inr ⟨y, x, ⟨a.2.2.1, a.2.2.2, a.1, a.2.1⟩, b, by show 2 * (F x y).natAbs ≤ w; omega⟩
  · intro σ τ hs ht
    unfold Wt
    rw [npr_c, npr_c, npr_c, ← Nat.pow_add, ← Nat.pow_add, Nat.mul_assoc, ← Nat.pow_add]
    exact Nat.mul_le_mul (h3 σ τ hs ht) (Nat.pow_le_pow_right w0 (by omega))
/-- a run behind P3 stays small -/
def PP3 (R K' Kc T Q E k : Nat) (F : Nat → Nat → Int) : Prop := P3 R K' Kc T Q k F ∨ P2 R K' Kc T (Kc + T) k F ∨ P1 R K' E k F
theorem PP3_clo {R K' Kc T Q : Nat} : clo R K' (PP3 R K' Kc T Q (Kc + T)) := by
  intro k F i j h hl
  rcases h with h | h | h
  · exact ⟨fun c => .inr (.inl ((P3_step h hl).1 c)), fun c => .inl ((P3_step h hl).2 c)⟩
  · exact ⟨fun c => .inr (.inr ((P2_step (Nat.le_refl _) h hl).1 c)), fun c => .inr (.inl ((P2_step (Nat.le_refl _) h hl).2 c))⟩
  · exact ⟨fun c => .inr (.inr ((P1_step h hl).1 c)), fun c => .inr (.inr ((P1_step h hl).2 c))⟩
theorem PP3_small {R K' Kc T Q k : Nat} {F : Nat → Nat → Int} (h : PP3 R K' Kc T Q (Kc + T) k F) (h1 : Kc + T < 9223372036854775808) (h2 : T + Q < 9223372036854775808) : ∀ i j, inn R K' k i j → (F i j).natAbs < 9223372036854775808 := by
  intro i j hij
  rcases h with ⟨o, o', M, q, _, _, _, _, _, _, _, h, _⟩ | h | h
  · have := bdM_1.mp h i j hij
    omega
  · have := bdM_1.mp h.2.2.1 i j hij
    omega
  · have := bdM_1.mp h.2 i j hij
    omega
/-- what is left behind one more failing step -/
def f2 (a b c : Nat) : Nat := c + 3 * b + a
def f3 (b c : Nat) : Nat := 5 * c + 4 * b
/-- at most q - 1 failing steps from here, and what comes then is small enough -/
def ok4 (e m : Nat) : Nat → Nat → Nat → Nat → Bool
  | 0, _, _, _ => true
  | q + 1, a, b, c => Nat.ble a (2 ^ m) && Nat.ble (b + (4 * (m + 1) + 1) * (c * (2 * (a + 1)) ^ e) + a) 9223372000000000000 && ok4 e m q (f2 a b c) (f3 b c) (9 * c)
def P4 (R K' e m k : Nat) (F : Nat → Nat → Int) : Prop := ∃ q a b c, k = 0 ∧ bdM 5 R K' 0 F 0 ∧ bdM 4 R K' 0 F c ∧ bdM 3 R K' 0 F b ∧ bdM 2 R K' 0 F a ∧ bdM 1 R K' 0 F 9223372036854775807 ∧ lsB R K' 0 F q ∧ q ≤ 4294967296 ∧ ok4 e m q a b c = true
theorem fail_2 {R K' k : Nat} {G : Nat → Nat → Int} (hkR : k < R) (hkK : k < K') (hp : G k k ≠ 0) (h : ¬ clrd G R K' k) : 2 ≤ (G k k).natAbs := by
  obtain ⟨a, b, _, c, d⟩ := fail_ex hkR hkK hp h
  have := Int.natAbs_pos.mpr c
  omega
def S4 (R K' e m k : Nat) (F : Nat → Nat → Int) : Prop := P4 R K' e m k F ∨ ∃ Kc T Q, Kc + T < 9223372036854775808 ∧ T + Q < 9223372036854775808 ∧ PP3 R K' Kc T Q (Kc + T) k F
theorem S4_clo {R K' e m : Nat} (he : e = (R - 1 - 3) + (K' - 1 - 3)) : clo R K' (S4 R K' e m) := by
  intro k F i j h hl
  rcases h with h | ⟨Kc, T, Q, h1, h2, h⟩
  · obtain ⟨q, a, b, c, rfl, h5, h4, h3, h2, h1, hls, hq32, hok⟩ := h
    have hq := lsB_lst hls hl
    obtain ⟨⟨i1, i2, i3, i4⟩, i5, i6⟩ := hl
    have s5 := bdM_sw ⟨i1, i2⟩ ⟨i3, i4⟩ h5
    have s4 := bdM_sw ⟨i1, i2⟩ ⟨i3, i4⟩ h4
    have s3 := bdM_sw ⟨i1, i2⟩ ⟨i3, i4⟩ h3
    have s2 := bdM_sw ⟨i1, i2⟩ ⟨i3, i4⟩ h2
    have hp : swc (swr F 0 i) 0 j 0 0 ≠ 0 := by rw [sw_kk]; exact i5
    rw [← sw_kk (F := F) (k := 0) (i := i) (j := j)] at hq
    unfold stp
    generalize swc (swr F 0 i) 0 j = G at *
    have p0 := Int.natAbs_pos.mpr hp
    obtain ⟨q, rfl⟩ : ∃ q', q = q' + 1 := ⟨q - 1, by omega⟩
    unfold ok4 at hok
    rw [Bool.and_eq_true, Bool.and_eq_true] at hok
    obtain ⟨⟨o1, o2⟩, o3⟩ := hok
    have o1 := Nat.le_of_ble_eq_true o1
    have o2 := Nat.le_of_ble_eq_true o2
    refine ⟨fun cl => .inr ?_, fun cl => .inl ?_⟩
    · have n4 := next_bd hp (by omega) (by omega) cl s5
      have n3 := next_bd hp (by omega) (by omega) cl s4
      have n2 := next_bd hp (by omega) (by omega) cl s3
      have n1 := next_bd hp (by omega) (by omega) cl s2
      have w := hs_log (Kc := c * (2 * (a + 1)) ^ e) o1
      have e2 : (4 * (m + 1) + 1) * (c * (2 * (a + 1)) ^ e) = 4 * (c * (2 * (a + 1)) ^ e) * (m + 1) + c * (2 * (a + 1)) ^ e := by
        rw [Nat.add_mul, Nat.one_mul, Nat.mul_right_comm]
      rw [e2] at o2
      refine ⟨c * (2 * (a + 1)) ^ e, b + 4 * (c * (2 * (a + 1)) ^ e) * (m + 1), a, by omega, by omega, .inl ?_⟩
      have := P3_of (w := 2 * (a + 1)) n4 n3 n2 (lsB_of n1) (by omega) (by omega) (b + 4 * (c * (2 * (a + 1)) ^ e) * (m + 1)) a (by rw [← he]; omega) (Nat.le_refl _) (bdM_mono n1 (by omega))
      rw [← he] at this
      exact this
    · have p2 := fail_2 (by omega) (by omega) hp cl
      have e0 : rowP G 0 0 0 = G 0 0 := rowP_row
      have r4 := row_bd hp p2 (by omega) (by omega) s4 s5
      have r3 := row_bd hp p2 (by omega) (by omega) s3 s4
      have r2 := row_bd hp p2 (by omega) (by omega) s2 s3
      have r5 := van_bd.mp (van_rowP (k := 0) (R := R) (K' := K') (by omega) (van_bd.mpr s5))
      have c4 := col_bd (G := rowP G 0) (by rw [e0]; exact hp) (by rw [e0]; exact p2) (by omega) (by omega) r4 r5
      have c3 := col_bd (G := rowP G 0) (by rw [e0]; exact hp) (by rw [e0]; exact p2) (by omega) (by omega) r3 r4
      have c2 := col_bd (G := rowP G 0) (by rw [e0]; exact hp) (by rw [e0]; exact p2) (by omega) (by omega) r2 r3
      have st := step_ent hp (show 0 < R by omega) (show 0 < K' by omega) s2
      refine ⟨q, f2 a b c, f3 b c, 9 * c, rfl, van_step (by omega) (by omega) s5, bdM_mono c4 (by simp only [if_neg (show ¬ 4 ≤ 2 by decide)]; omega), bdM_mono c3 (by unfold f3; simp only [if_neg (show ¬ 3 ≤ 2 by decide), if_neg (show ¬ 4 ≤ 2 by decide)]; omega), bdM_mono c2 (by unfold f2; simp only [if_neg (show ¬ 3 ≤ 2 by decide), if_pos (show 2 ≤ 2 by decide)]; omega), ?_, ?_, by omega, o3⟩
      · exact bdM_1.mpr fun x y hxy => by
          have := st x y hxy
          omega
      · obtain ⟨x, y, c1, c2, c3⟩ := fail_ex (R := R) (K' := K') (by omega) (by omega) hp cl
        exact .inr ⟨x, y, c1, c2, by omega⟩
  · exact ⟨fun c => .inr ⟨Kc, T, Q, h1, h2, (PP3_clo k F i j h hl).1 c⟩, fun c => .inr ⟨Kc, T, Q, h1, h2, (PP3_clo k F i j h hl).2 c⟩⟩
theorem S4_small {R K' e m : Nat} {F0 : Nat → Nat → Int} (he : e = (R - 1 - 3) + (K' - 1 - 3)) (h : S4 R K' e m 0 F0) : smallD R K' F0 := by
  intro k F hr i j hij
  rcases hr _ h (S4_clo he) with ⟨q, a, b, c, rfl, _, _, _, _, h1, _⟩ | ⟨Kc, T, Q, h1, h2, h⟩
  · have := bdM_1.mp h1 i j hij
    omega
  · exact PP3_small h h1 h2 i j hij
