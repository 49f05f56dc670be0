/-! SIZES, 93.zyp: runs of four rows and columns other than 0; near 2 of them (no program in sight) -/
theorem npr_few {w : Nat} (w0 : 0 < w) : ∀ (m : Nat) {n : Nat} {f : Nat → Nat}, (∀ l, l < n → f l ≤ w) → (∀ ρ, ij (m + 1) ρ → (∀ a, a < m + 1 → ρ a < n) → ∃ a, a < m + 1 ∧ f (ρ a) = 1) → npr n f ≤ w ^ m := by
  have ones : ∀ {n : Nat} {f : Nat → Nat}, (∀ l, l < n → f l = 1) → npr n f = 1 := fun h => by
    rw [npr_cg (g := fun _ => 1) h, npr_c, Nat.one_pow]
  intro m
  induction m with
  | zero =>
    intro n f _ h
    rw [ones fun l hl => by
      obtain ⟨a, _, a1⟩ := h (fun _ => l) (fun a b ha hb _ => by omega) (fun _ _ => hl)
      exact a1]
    exact Nat.le_refl _
  | succ m ih =>
    intro n f hw h
    by_cases c : ∃ t, t < n ∧ f t ≠ 1
    · obtain ⟨t, ht, ht1⟩ := c
      have u := npr_up (n := n) (t := t) (x := 1) (f := f) ht
      rw [Nat.mul_one] at u
      rw [← u, Nat.pow_succ]
      refine Nat.mul_le_mul (ih (f := fun a => if a = t then 1 else f a) (fun l hl => ?_) (fun ρ hi hr => ?_)) (hw t ht)
      · show (if l = t then 1 else f l) ≤ w
        split
        · exact w0
        · exact hw l hl
      · by_cases e : ∃ a, a < m + 1 ∧ ρ a = t
        · obtain ⟨a, a1, a2⟩ := e
          exact ⟨a, a1, if_pos a2⟩
        · obtain ⟨a, a1, a2⟩ := h (cn t ρ) (cn_ij hi fun a ha y => e ⟨a, ha, y⟩) (fun a ha => by
            unfold cn
            split
            · exact ht
            · exact hr (a - 1) (by omega))
          unfold cn at a2
          by_cases a0 : a = 0
          · rw [if_pos a0] at a2; exact absurd a2 ht1
          · rw [if_neg a0] at a2
            exact ⟨a - 1, by omega, by
              show (if ρ (a - 1) = t then 1 else f (ρ (a - 1))) = 1
              split
              · rfl
              · exact a2⟩
    · rw [ones fun l hl => Classical.byContradiction fun y => c ⟨l, hl, y⟩]
      exact Nat.pow_pos w0
/-- of m + 1 rows one is 0 -/
def Zm (m R K' k : Nat) (F : Nat → Nat → Int) : Prop := ∀ ρ, inr k R (m + 1) ρ → ij (m + 1) ρ → ∃ a, a < m + 1 ∧ ∀ y, k ≤ y → y < K' → F (ρ a) y = 0
theorem Zm_wt {m R K' k w : Nat} {F : Nat → Nat → Int} (w0 : 0 < w) (h : Zm m R K' k F) : Wt k R (ozr K' k w F) ≤ w ^ m := by
  unfold Wt
  refine npr_few w0 m (fun l _ => (ozr_le w0).2) (fun ρ hi hr => ?_)
  obtain ⟨a, a1, a2⟩ := h (fun a => k + ρ a) (fun a ha => by have := hr a ha; exact ⟨by show k ≤ k + ρ a; omega, by show k + ρ a < R; omega⟩) (fun a b ha hb e => hi a b ha hb (by simp only at e; omega))
  exact ⟨a, a1, ozr_z fun ⟨y, y1, y2, y3⟩ => y3 (a2 y y1 y2)⟩
theorem Zm_Z4 {R K' k w : Nat} {F : Nat → Nat → Int} (h : Zm 4 R K' k F) : Z4 R K' k F (ozr K' k w F) := fun ρ hr hi => by
  obtain ⟨a, a1, a2⟩ := h ρ hr hi
  exact ⟨a, a1, ozr_z fun ⟨y, y1, y2, y3⟩ => y3 (a2 y y1 y2), a2⟩
/-- behind the stage there is one less -/
theorem Zm_next {R K' k : Nat} {F : Nat → Nat → Int} {o : Nat → Nat} (hkR : k < R) (hkK : k < K') (hp : F k k ≠ 0) (h : Z4 R K' k F o) : Zm 3 R K' (k + 1) F := fun ρ hr hi => by
  obtain ⟨a, a1, _, a2⟩ := h (cn k ρ) (inr_cn hkR fun a ha => by have := hr a ha; omega) (cn_ij hi fun a ha y => by have := hr a ha; omega)
  unfold cn at a2
  by_cases c : a = 0
  · rw [if_pos c] at a2
    exact absurd (a2 k (Nat.le_refl _) hkK) hp
  · rw [if_neg c] at a2
    exact ⟨a - 1, by omega, fun y y1 y2 => a2 y (by omega) y2⟩
theorem topP_z {R K' k N w a b : Nat} {F : Nat → Nat → Int} (h3 : bdM 3 R K' k F N) (hR : Wt k R (ozr K' k w F) ≤ w ^ (3 + a)) (hK : Wt k K' (ozr R k w (fun x y => F y x)) ≤ w ^ (3 + b)) : topP 3 R K' k F (ozr K' k w F) (ozr R k w (fun x y => F y x)) (N * w ^ (a + b)) := by
  intro σ τ hs ht
  by_cases hm : mn 3 (fun a b => F (σ a) (τ b)) = 0
  · rw [hm]; simp
  · have e1 := ozr_3 (R := R) (w := w) ht hm
    have e2 := ozr_3 (R := K') (K' := R) (w := w) (F := fun x y => F y x) (σ := τ) (τ := σ) hs (by rw [mn_tr (A := fun a b => F (σ a) (τ b))]; exact hm)
    rw [e1, e2]
    have h := Nat.mul_le_mul (h3 σ τ hs ht) (Nat.mul_le_mul hR hK)
    refine Nat.le_trans h (Nat.le_of_eq ?_)
    rw [Nat.pow_add, Nat.pow_add, Nat.pow_add]
    ac_rfl
theorem ozr_okW {R K' k w q : Nat} {F : Nat → Nat → Int} (w0 : 0 < w) (hq : lsB R K' k F q) (hw : 2 * q ≤ w) : okW R K' k w F (ozr K' k w F) := by
  intro l hl hR
  refine ⟨(ozr_le w0).1, (ozr_le w0).2, ?_⟩
  by_cases c : ∃ y, k ≤ y ∧ y < K' ∧ F l y ≠ 0
  · rcases hq with z | ⟨x, y, a, b, d⟩
    · obtain ⟨y, y1, y2, y3⟩ := c
      exact absurd (z l y ⟨hl, hR, y1, y2⟩) y3
    · exact .inr ⟨x, y, a, b, by rw [ozr_n c]; omega⟩
  · have z : ∀ y, k ≤ y → y < K' → F l y = 0 := fun y y1 y2 => Classical.byContradiction fun y3 => c ⟨y, y1, y2, y3⟩
    exact .inl fun y y1 y2 => ⟨by rw [z y y1 y2]; exact Nat.zero_le _, fun d => absurd (z y y1 y2) d⟩
theorem lsB_tr {R K' k q : Nat} {F : Nat → Nat → Int} (hq : lsB R K' k F q) : lsB K' R k (fun x y => F y x) q := by
  rcases hq with z | ⟨x, y, a, b, d⟩
  · exact .inl fun x y h => z y x ⟨h.2.2.1, h.2.2.2, h.1, h.2.1⟩
  · exact .inr ⟨y, x, ⟨a.2.2.1, a.2.2.2, a.1, a.2.1⟩, b, d⟩
def P4f (R K' N w Km T Q k : Nat) (F : Nat → Nat → Int) : Prop := ∃ o o' Kc M q, Z4 R K' k F o ∧ Z4 K' R k (fun x y => F y x) o' ∧ bdM 4 R K' k F N ∧ okW R K' k w F o ∧ okW K' R k w (fun x y => F y x) o' ∧ topP 3 R K' k F o o' Kc ∧ Kc + 4 * N * w * q ≤ Km ∧ bdM 2 R K' k F M ∧ M + hs Km q ≤ T ∧ q ≤ Q ∧ bdM 1 R K' k F (T + Q) ∧ lsB R K' k F q
theorem P4f_step {R K' N w Km T Q k i j : Nat} {F : Nat → Nat → Int} (w0 : 0 < w) (h : P4f R K' N w Km T Q k F) (hl : isLst F R K' k i j) : (clrd (swc (swr F k i) k j) R K' k → P3 R K' N (Km + hs N T) T (k + 1) (stp F K' k i j)) ∧ (¬ clrd (swc (swr F k i) k j) R K' k → P4f R K' N w Km T Q k (stp F K' k i j)) := by
  obtain ⟨o, o', Kc, M, q, z, z', h4, ho, ho', ht, hK, h2, hM, hqQ, h1, hls⟩ := h
  have hq := lsB_lst hls hl
  have hl' := hl
  obtain ⟨⟨i1, i2, i3, i4⟩, i5, i6⟩ := hl
  have hkR : k < R := by omega
  have hkK : k < K' := by omega
  have b3 := topP_bd (fun l a b => (ho l a b).1) (fun l a b => (ho' l a b).1) ht
  have hp : swc (swr F k i) k j k k ≠ 0 := by rw [sw_kk]; exact i5
  have s2 := bdM_sw ⟨i1, i2⟩ ⟨i3, i4⟩ h2
  have s3 := bdM_sw ⟨i1, i2⟩ ⟨i3, i4⟩ b3
  have s4 := bdM_sw ⟨i1, i2⟩ ⟨i3, i4⟩ h4
  have zG := Z4_sw ⟨i1, i2⟩ ⟨i3, i4⟩ z
  have zG' := Z4_swT ⟨i1, i2⟩ ⟨i3, i4⟩ z'
  rw [← sw_kk (F := F) (k := k) (i := i) (j := j)] at hq
  have p0 := Int.natAbs_pos.mpr hp
  have mulq : 4 * N * w * (swc (swr F k i) k j k k).natAbs ≤ 4 * N * w * q := Nat.mul_le_mul_left _ hq
  have e4 : 4 * N * w = 2 * N * w + 2 * N * w := by rw [← Nat.add_mul, ← Nat.add_mul]
  refine ⟨fun c => ?_, fun c => ?_⟩
  · have e0 : rowP (swc (swr F k i) k j) k k k = swc (swr F k i) k j k k := rowP_row
    have zr := Z4_colP (Z4_row (p := 1) zG hkK hp) hkK
    have zc := Z4_colT (p := 1) (Z4_rowT zG' hkR) hkR (by rw [e0]; exact hp)
    have n4 := next_bd hp hkR hkK c (Z4_5 zG)
    have n3 := next_bd hp hkR hkK c s4
    have n2 := bdM_mono (next_bd hp hkR hkK c s3) (show Kc ≤ Km by omega)
    have n1 := bdM_mono (next_bd hp hkR hkK c s2) (show M ≤ T by omega)
    have pk : colP (rowP (swc (swr F k i) k j) k) k K' k k ≠ 0 := by
      have := (stpF_is (R := R) (K' := K') (k := k) (G := swc (swr F k i) k j)).1
      rw [this]; exact hp
    have r := P3z_of (w := 2 * T + 1) (a := 0) (b := 0) n4 n3 n2 (lsB_of n1) (by omega) (by omega)
      (Zm_wt (by omega) (Zm_next hkR hkK pk zr)) (Zm_wt (F := fun x y => colP (rowP (swc (swr F k i) k j) k) k K' y x) (by omega) (Zm_next (F := fun x y => colP (rowP (swc (swr F k i) k j) k) k K' y x) hkK hkR pk zc))
      (Km + hs N T) T (by rw [Nat.pow_zero, Nat.mul_one]; exact Nat.le_refl _) (Nat.le_refl _) (bdM_mono n1 (by omega))
    rw [Nat.pow_zero, Nat.mul_one] at r
    exact r
  · obtain ⟨⟨v, v', v1, v2, v3, v4, v5, v6⟩, s3'⟩ := pot_step4 w0 hl' c z z' h4 ho ho' ht
    have hh := hs_mono (Kc := Km) p0 hq
    have e5 : 4 * N * w * ((swc (swr F k i) k j k k).natAbs - 1) + 4 * N * w = 4 * N * w * (swc (swr F k i) k j k k).natAbs := by
      obtain ⟨t, ht⟩ : ∃ t, (swc (swr F k i) k j k k).natAbs = t + 1 := ⟨_, (Nat.succ_pred_eq_of_pos p0).symm⟩
      rw [ht, Nat.add_sub_cancel, Nat.mul_add, Nat.mul_one]
    refine ⟨v, v', _, M + 4 * Km / (swc (swr F k i) k j k k).natAbs, (swc (swr F k i) k j k k).natAbs - 1, v1, v2, v3, v4, v5, v6, by omega, ?_, by omega, by omega, ?_, ?_⟩
    · unfold stp
      have s3k := bdM_mono s3 (show Kc ≤ Km by omega)
      have mulp : 4 * N * w * 1 ≤ 4 * N * w * (swc (swr F k i) k j k k).natAbs := Nat.mul_le_mul_left _ p0
      rw [Nat.mul_one] at mulp
      have s3k' := bdM_mono s3' (show Kc + 2 * N * w ≤ Km by omega)
      generalize swc (swr F k i) k j = G at *
      have e0 : rowP G k k k = G k k := rowP_row
      have a1 := row_bd2 hp hkR hkK s2 s3k
      have a2 := col_bd2 (G := rowP G k) (by rw [e0]; exact hp) hkR hkK a1 s3k'
      rw [e0] at a2
      refine bdM_mono a2 ?_
      have : 2 * Km / (G k k).natAbs + 2 * Km / (G k k).natAbs ≤ 4 * Km / (G k k).natAbs := by
        have := Nat.div_mul_le_self (2 * Km) (G k k).natAbs
        refine (Nat.le_div_iff_mul_le p0).mpr ?_
        rw [Nat.add_mul]
        omega
      omega
    · unfold stp
      generalize swc (swr F k i) k j = G at *
      exact bdM_1.mpr fun x y hxy => by
        have := step_ent hp hkR hkK s2 x y hxy
        omega
    · unfold stp
      generalize swc (swr F k i) k j = G at *
      obtain ⟨a, b, c1, c2, c3⟩ := fail_ex (R := R) (K' := K') hkR hkK hp c
      exact .inr ⟨a, b, c1, c2, by omega⟩
theorem smallA_4z {R m m2 q a b c E : Nat} {A : Nat → Nat → Int} (hs' : ∀ i j, i < R → j < R → A i j = A j i) (hz : Zm 4 R R 0 A) (h4 : bdM 4 R R 0 A c) (h3 : bdM 3 R R 0 A b) (h2 : bdM 2 R R 0 A a) (h1 : bdM 1 R R 0 A E) (hq : lsB R R 0 A q) (hqm : q ≤ 2 ^ m) (hE : E ≤ a + q) (Km T : Nat)
    (hKm : b * (2 * (q + 1)) ^ (1 + 1) + 4 * c * (2 * (q + 1)) * q ≤ Km) (hT : a + 4 * Km * (m + 1) ≤ T) (hTm : T ≤ 2 ^ m2) (hok : Km + 4 * c * (m2 + 1) + c + T < 9223372036854775808) (hok2 : T + q < 9223372036854775808) : smallA R R A := by
  intro F0 hF k F hr i j hij
  have e0 := inn_ag hF
  have eT : ∀ x y, inn R R 0 x y → A x y = F0 y x := fun x y h => by
    rw [hs' x y h.2.1 h.2.2.2, hF y x h.2.2.2 h.2.1]
  have hq' : lsB R R 0 F0 q := by
    rcases hq with z | ⟨x, y, u, v, w⟩
    · exact .inl fun x y h => by rw [← e0 x y h]; exact z x y h
    · exact .inr ⟨x, y, u, by rw [← e0 x y u]; exact v, by rw [← e0 x y u]; exact w⟩
  have hz1 : Zm 4 R R 0 F0 := fun ρ hr hi => by
    obtain ⟨a, a1, a2⟩ := hz ρ hr hi
    exact ⟨a, a1, fun y y1 y2 => by rw [← e0 (ρ a) y ⟨(hr a a1).1, (hr a a1).2, y1, y2⟩]; exact a2 y y1 y2⟩
  have hz2 : Zm 4 R R 0 (fun x y => F0 y x) := fun ρ hr hi => by
    obtain ⟨a, a1, a2⟩ := hz ρ hr hi
    exact ⟨a, a1, fun y y1 y2 => by
      show F0 y (ρ a) = 0
      rw [← eT (ρ a) y ⟨(hr a a1).1, (hr a a1).2, y1, y2⟩]; exact a2 y y1 y2⟩
  have w0 : 0 < 2 * (q + 1) := by omega
  have hsT : hs c T ≤ 4 * c * (m2 + 1) := hs_log hTm
  have hsK : hs Km q ≤ 4 * Km * (m + 1) := hs_log hqm
  have st : P4f R R c (2 * (q + 1)) Km T q 0 F0 := ⟨_, _, b * (2 * (q + 1)) ^ (1 + 1), a, q, Zm_Z4 hz1, Zm_Z4 hz2, bdM_cg e0 h4, ozr_okW w0 hq' (by omega), ozr_okW w0 (lsB_tr hq') (by omega), topP_z (bdM_cg e0 h3) (Zm_wt w0 hz1) (Zm_wt w0 hz2), hKm, bdM_cg e0 h2, by omega, Nat.le_refl _, bdM_mono (bdM_cg e0 h1) (by omega), hq'⟩
  have := hr (fun k F => P4f R R c (2 * (q + 1)) Km T q k F ∨ PP3 R R c (Km + hs c T) T (c + (Km + hs c T)) k F) (.inl st) (fun k F i j h hl => by
    rcases h with h | h
    · exact ⟨fun c => .inr (.inl ((P4f_step w0 h hl).1 c)), fun c => .inl ((P4f_step w0 h hl).2 c)⟩
    · exact ⟨fun c => .inr ((PP3_clo k F i j h hl).1 c), fun c => .inr ((PP3_clo k F i j h hl).2 c)⟩)
  rcases this with ⟨o, o', Kc, M, q1, _, _, _, _, _, _, _, _, _, _, h, _⟩ | h
  · have := bdM_1.mp h i j hij
    omega
  · exact PP3_small h (by omega) (by omega) i j hij
