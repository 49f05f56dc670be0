/-! PLAIN LAW, 93.e: the model: the divisor of all minors, the rank -/
theorem sub_bits : ∀ c, c < 64 → ∀ cs, cs < 64 → ((nI c &&& (nI cs ^^^ (-1 : Int32))) = 0 ↔ c &&& cs = c) := by decide +kernel
theorem shl_nI : ∀ R, R < 7 → ((1 : Int32) <<< (nI R &&& 31)) = nI (2 ^ R) := by decide +kernel
/-- which minors are taken -/
def vS (C : CX) (d cs k r c : Nat) : Prop := r < 2 ^ cRows C d ∧ c ≤ cs ∧ sN r = k ∧ sN c = k ∧ c &&& cs = c
theorem gcd_lt {a b : Nat} {B : Nat} (ha : a < B) (hb : b < B) : Nat.gcd a b < B := by
  by_cases c : a = 0
  · subst c; rw [Nat.gcd_zero_left]; exact hb
  · exact Nat.lt_of_le_of_lt (Nat.gcd_le_left b (Nat.pos_of_ne_zero c)) ha
theorem and_bit {c cs j : Nat} (h : c &&& cs = c) (hb : c.testBit j = true) : cs.testBit j = true := by
  have := congrArg (fun x => x.testBit j) h
  rw [Nat.testBit_and, hb, Bool.true_and] at this
  exact this
section MR
variable {N m : Nat} {ad : Nat → Nat} {M0 M : Mem} {S : MS} {C : CX} {f : Nat → Int64}
/-- g divides just what these divide -/
def gOf (P : Int → Prop) (g : Nat) : Prop := g < 9223372036854775808 ∧ ∀ z : Int, P z ↔ z ∣ (g : Int)
theorem gOf_step {P Q : Int → Prop} {g : Nat} {x : Int} (h : gOf P g) (hx : x.natAbs < 9223372036854775808) (e : ∀ z, Q z ↔ P z ∧ z ∣ x) : gOf Q (Int.gcd (g : Int) x) := by
  refine ⟨gcd_lt (show ((g : Int)).natAbs < _ by have := h.1; omega) hx, fun z => ?_⟩
  rw [e, h.2]
  constructor
  · rintro ⟨h1, h2⟩; exact Int.dvd_coe_gcd h1 h2
  · intro h1; exact ⟨Int.dvd_trans h1 (Int.gcd_dvd_left ..), Int.dvd_trans h1 (Int.gcd_dvd_right ..)⟩
theorem gOf_cg {P Q : Int → Prop} {g : Nat} (h : gOf P g) (e : ∀ z, Q z ↔ P z) : gOf Q g := ⟨h.1, fun z => (e z).trans (h.2 z)⟩
/-- a minor by two sets -/
def mS (C : CX) (d c k r cs : Nat) : Int := mn k (fun a b => cWd C d c (nt r a) (nt cs b))
theorem mS_rg (hW : jWf C) {d c k r cs : Nat} (hc : c < 3) (hr : r < 2 ^ cRows C d) (hcs : cs < 64) (hk : sN r = k) (hk2 : sN cs = k) (hk5 : k ≤ 5) (hok : ∀ j, cs.testBit j = true → j < cCols C d ∨ (d = 2 ∧ j = 4)) : (mS C d c k r cs).natAbs < 9223372036854775808 := by
  have hr6 := cRows_le hW (d := d)
  have := mn_abs (n := k) (A := fun a b => cWd C d c (nt r a) (nt cs b)) (M := 9) (fun a b ha hb => cWd_rg hW hc (nt_lt hr hr6 (by omega)) (hok _ (nt_ok cs hcs b (by omega) (by omega)).2.2.1))
  refine Nat.lt_of_le_of_lt this ?_
  rcases (show k = 0 ∨ k = 1 ∨ k = 2 ∨ k = 3 ∨ k = 4 ∨ k = 5 by omega) with h | h | h | h | h | h <;> rw [h] <;> decide
theorem jm_minorsOf (h : jMM m ad M0 (s15 S f) M) (hC : jEnc C (S.1 0)) (hW : jWf C) (hN : 9223372036854775809 < N) {d c cs k : Nat} (hd : d = 1 ∨ d = 2) (hc : c < 3) (hcs : cs < 64) (hk5 : k ≤ 5) (hok : ∀ j, cs.testBit j = true → j < cCols C d ∨ (d = 2 ∧ j = 4)) :
    jo (jf_X1_minorsOf N m (nI d) (nI cs) (nI k) (nI c)) M (fun x M' => (∃ g : Nat, x = jI (g : Int) ∧ gOf (fun z => ∀ r c', vS C d cs k r c' → z ∣ mS C d c k r c') g) ∧ ∃ g, jMM m ad M0 (s15 S g) M') := by
  have hr6 := cRows_le hW (d := d)
  have hR : 2 ^ cRows C d ≤ 64 := Nat.pow_le_pow_right (n := 2) (by decide) hr6
  have e0 : (0 : Int64) = jI ((0 : Nat) : Int) := rfl
  unfold jf_X1_minorsOf jf_X1_minorsOf_k6_84
  refine jo_bd (jo_mono (jo_up (2 ^ cRows C d) (fun r z M' => (∃ g : Nat, z = (jI (g : Int), nI r) ∧ gOf (fun z => ∀ r' c', r' < r → vS C d cs k r' c' → z ∣ mS C d c k r' c') g) ∧ ∃ g, jMM m ad M0 (s15 S g) M') (fun x M' => (∃ g : Nat, x = jI (g : Int) ∧ gOf (fun z => ∀ r c', vS C d cs k r c' → z ∣ mS C d c k r c') g) ∧ ∃ g, jMM m ad M0 (s15 S g) M') ?_ ?_ N 0 _ M ⟨⟨0, rfl, by decide, fun z => ⟨fun _ => Int.dvd_zero z, fun _ r' c' hr => absurd hr (Nat.not_lt_zero _)⟩⟩, f, h⟩ (Nat.zero_le _) (by omega)) ?_)
  · rintro r z M' hr ⟨⟨g, rfl, hg⟩, w, h'⟩
    unfold jf_X1_minorsOf_L6 jf_X1_minorsOf_k21_78
    refine jo_rd (jM_cl h') (jo_eq (jr_rows h' hC hd) ?_)
    rw [shl_nI _ (by omega)]
    refine jo_f (by rw [nI_leI (by omega) (by omega)]; omega) ?_
    dsimp only
    refine jo_bd (jo_mono (jo_up (cs + 1) (fun q z M1 => (∃ g : Nat, z = (jI (g : Int), nI q) ∧ gOf (fun z => (∀ r' c', r' < r → vS C d cs k r' c' → z ∣ mS C d c k r' c') ∧ ∀ c', c' < q → vS C d cs k r c' → z ∣ mS C d c k r c') g) ∧ ∃ g, jMM m ad M0 (s15 S g) M1) (fun x M1 => (∃ g : Nat, x = jI (g : Int) ∧ gOf (fun z => ∀ r' c', r' < r + 1 → vS C d cs k r' c' → z ∣ mS C d c k r' c') g) ∧ ∃ g, jMM m ad M0 (s15 S g) M1) ?_ ?_ N 0 _ M' ⟨⟨g, rfl, gOf_cg hg (fun z => ⟨fun y => y.1, fun y => ⟨y, fun c' hc' => absurd hc' (Nat.not_lt_zero _)⟩⟩)⟩, w, h'⟩ (Nat.zero_le _) (by omega)) ?_)
    · rintro q z M1 hq ⟨⟨g, rfl, hg⟩, w, h1⟩
      unfold jf_X1_minorsOf_L21 jf_X1_minorsOf_j72
      refine jo_f (by rw [nI_ltI (by omega) (by omega)]; omega) ?_
      -- this one is not taken
      have skip : ¬ vS C d cs k r q → gOf (fun z => (∀ r' c', r' < r → vS C d cs k r' c' → z ∣ mS C d c k r' c') ∧ ∀ c', c' < q + 1 → vS C d cs k r c' → z ∣ mS C d c k r c') g := by
        intro hv
        refine gOf_cg hg (fun z => ⟨fun y => ⟨y.1, fun c' hc' => y.2 c' (by omega)⟩, fun y => ⟨y.1, fun c' hc' v => ?_⟩⟩)
        by_cases e : c' = q
        · subst e; exact absurd v hv
        · exact y.2 c' (by omega) v
      have hsr := sN_le r (by omega)
      have hsq := sN_le q (by omega)
      refine jo_eq (jr_ones (by omega) (by omega)) ?_
      by_cases a1 : sN r = k
      case neg => exact jo_f (by rw [nI_eq (by omega) (by omega)]; exact a1) (jo_ret ⟨⟨g, by rw [nI_1], skip (fun v => a1 v.2.2.1)⟩, w, h1⟩)
      refine jo_t (by rw [a1]) (jo_eq (jr_ones (by omega) (by omega)) ?_)
      by_cases a2 : sN q = k
      case neg => exact jo_f (by rw [nI_eq (by omega) (by omega)]; exact a2) (jo_ret ⟨⟨g, by rw [nI_1], skip (fun v => a2 v.2.2.2.1)⟩, w, h1⟩)
      refine jo_t (by rw [a2]) ?_
      by_cases a3 : q &&& cs = q
      case neg => exact jo_f (fun y => a3 ((sub_bits q (by omega) cs hcs).mp y)) (jo_ret ⟨⟨g, by rw [nI_1], skip (fun v => a3 v.2.2.2.2)⟩, w, h1⟩)
      refine jo_t ((sub_bits q (by omega) cs hcs).mpr a3) (jo_rd (jM_cl h1) ?_)
      have okq : ∀ j, q.testBit j = true → j < cCols C d ∨ (d = 2 ∧ j = 4) := fun j hj => hok j (and_bit a3 hj)
      refine jo_bd (jo_mono (jm_minor h1 hC hW (by omega) hd hc hr (by omega) a1 a2 hk5 okq) ?_)
      rintro x M2 ⟨rfl, w2, h2⟩
      have rg : (mS C d c k r q).natAbs < 9223372036854775808 := mS_rg hW hc hr (by omega) a1 a2 hk5 okq
      refine jo_eq (jr_gcd (a := (g : Int)) (by have := hg.1; omega) rg (by omega)) (jo_ret ⟨⟨Int.gcd (g : Int) (mS C d c k r q), by rw [nI_1]; rfl, ?_⟩, w2, h2⟩)
      refine gOf_step hg rg (fun z => ⟨fun y => ⟨⟨y.1, fun c' hc' v => y.2 c' (by omega) v⟩, y.2 q (by omega) ⟨hr, by omega, a1, a2, a3⟩⟩, fun y => ⟨y.1.1, fun c' hc' v => ?_⟩⟩)
      by_cases e : c' = q
      · subst e; exact y.2
      · exact y.1.2 c' (by omega) v
    · rintro z M1 ⟨⟨g, rfl, hg⟩, w, h1⟩
      unfold jf_X1_minorsOf_L21
      refine jo_t (by rw [nI_ltI (by omega) (by omega)]; omega) (jo_ret ⟨⟨g, rfl, gOf_cg hg (fun z => ⟨fun y => ⟨fun r' c' hr' v => y r' c' (by omega) v, fun c' _ v => y r c' (by omega) v⟩, fun y r' c' hr' v => ?_⟩)⟩, w, h1⟩)
      by_cases e : r' = r
      · subst e; exact y.2 c' (by have := v.2.1; omega) v
      · exact y.1 r' c' (by omega) v
    · rintro x M1 ⟨⟨g, rfl, hg⟩, w, h1⟩
      exact jo_ret ⟨⟨g, by rw [nI_1], hg⟩, w, h1⟩
  · rintro z M' ⟨⟨g, rfl, hg⟩, w, h'⟩
    unfold jf_X1_minorsOf_L6
    refine jo_rd (jM_cl h') (jo_eq (jr_rows h' hC hd) ?_)
    rw [shl_nI _ (by omega)]
    exact jo_t (by rw [nI_leI (by omega) (by omega)]; omega) (jo_ret ⟨⟨g, rfl, gOf_cg hg (fun z => ⟨fun y r' c' _ v => y r' c' v, fun y r' c' v => y r' c' v.1 v⟩)⟩, w, h'⟩)
  · rintro x M' hx
    exact jo_ret hx
end MR
/-- the table of some columns -/
def cSub (C : CX) (d c cs : Nat) : Nat → Nat → Int := fun i j => cWd C d c i (nt cs j)
theorem vS_dv {C : CX} (hW : jWf C) {d c cs k : Nat} (hcs : cs < 64) {z : Int} : (∀ r c', vS C d cs k r c' → z ∣ mS C d c k r c') ↔ dv k (cRows C d) (sN cs) (cSub C d c cs) z := by
  have hr6 := cRows_le hW (d := d)
  have h6 := sN_le cs hcs
  constructor
  · intro h
    rw [dv_inc]
    intro σ τ i1 i2 j1 j2
    obtain ⟨a1, a2, a3⟩ := bs_nt i1 i2 hr6
    have i3 : inc k (fun b => nt cs (τ b)) := fun b hb => inc_mono (nt_inc hcs) (j1 b hb) (j2 _ hb)
    obtain ⟨b1, b2, b3⟩ := bs_nt (R := 6) i3 (fun b hb => (nt_ok cs hcs (τ b) (by have := j2 b hb; omega) (j2 b hb)).2.1) (Nat.le_refl _)
    have sub : bs k (fun b => nt cs (τ b)) &&& cs = bs k (fun b => nt cs (τ b)) := by
      refine Nat.eq_of_testBit_eq (fun j => ?_)
      rw [Nat.testBit_and]
      cases hj : (bs k (fun b => nt cs (τ b))).testBit j with
      | false => rfl
      | true =>
        obtain ⟨b, hb, e⟩ := (bs_bit i3).mp hj
        rw [← e, (nt_ok cs hcs (τ b) (by have := j2 b hb; omega) (j2 b hb)).2.2.1]
        rfl
    have := h (bs k σ) (bs k (fun b => nt cs (τ b))) ⟨a1, by rw [← sub]; exact Nat.and_le_right, a2, b2, sub⟩
    unfold mS at this
    rw [mn_cg (B := fun a b => cSub C d c cs (σ a) (τ b)) (fun a b ha hb => by rw [a3 a ha, b3 b hb]; rfl)] at this
    exact this
  · intro h r c' ⟨v1, v2, v3, v4, v5⟩
    have hr64 : r < 64 := Nat.lt_of_lt_of_le v1 (Nat.pow_le_pow_right (n := 2) (by decide) hr6)
    have hc64 : c' < 64 := by omega
    have hs := sN_le c' hc64
    -- where the columns of c' stand in cs
    have ex : ∀ b, ∃ j, b < k → j < sN cs ∧ nt cs j = nt c' b := by
      intro b
      by_cases hb : b < k
      · have q := nt_ok c' hc64 b (by omega) (by omega)
        obtain ⟨j, _, j2, j3⟩ := nt_on cs hcs (nt c' b) q.2.1 (and_bit v5 q.2.2.1)
        exact ⟨j, fun _ => ⟨j2, j3⟩⟩
      · exact ⟨0, fun y => absurd y hb⟩
    have := h (nt r) (fun b => Classical.choose (ex b)) (fun a ha => nt_lt v1 hr6 (by omega)) (fun b hb => (Classical.choose_spec (ex b) hb).1)
    unfold mS
    rw [mn_cg (B := fun a b => cWd C d c (nt r a) (nt c' b)) (fun a b ha hb => by
      show cWd C d c (nt r a) (nt cs (Classical.choose (ex b))) = _
      rw [(Classical.choose_spec (ex b) hb).2])] at this
    exact this
/-! the rank -/
def isRk (R K : Nat) (A : Nat → Nat → Int) (r : Nat) : Prop := r ≤ R ∧ r ≤ K ∧ ¬ dv r R K A 0 ∧ ∀ k, r < k → dv k R K A 0
theorem isRk.uniq {R K R' K' r r' : Nat} {A B : Nat → Nat → Int} (h : isRk R K A r) (h' : isRk R' K' B r') (e : ∀ k, dv k R K A 0 ↔ dv k R' K' B 0) : r = r' := by
  rcases Nat.lt_trichotomy r r' with l | l | l
  · exact absurd ((e r').mp (h.2.2.2 r' l)) h'.2.2.1
  · exact l
  · exact absurd ((e r).mpr (h'.2.2.2 r l)) h.2.2.1
theorem pigeon : ∀ (n m : Nat) (f : Nat → Nat), ij n f → (∀ a, a < n → f a < m) → n ≤ m := by
  intro n
  induction n with
  | zero => intro m f _ _; omega
  | succ n ihn =>
    intro m f fi fm
    have f0 := fm n (by omega)
    have := ihn (m - 1) (fun a => if f a < f n then f a else f a - 1) (fun a b ha hb e => by
      have na : f a ≠ f n := fun q => by have := fi a n (by omega) (by omega) q; omega
      have nb : f b ≠ f n := fun q => by have := fi b n (by omega) (by omega) q; omega
      refine fi a b (by omega) (by omega) ?_
      dsimp only at e
      split at e <;> split at e <;> omega) (fun a ha => by
      have na : f a ≠ f n := fun q => by have := fi a n (by omega) (by omega) q; omega
      have := fm a (by omega)
      split <;> omega)
    omega
theorem mn_nijc {k : Nat} {A : Nat → Nat → Int} {σ τ : Nat → Nat} (h : ¬ ij k τ) : mn k (fun a b => A (σ a) (τ b)) = 0 := by
  unfold ij at h
  have : ∃ a b, a < k ∧ b < k ∧ τ a = τ b ∧ a ≠ b := Classical.byContradiction fun x => h (fun a b ha hb he => Classical.byContradiction fun y => x ⟨a, b, ha, hb, he, y⟩)
  obtain ⟨a, b, ha, hb, he, hn⟩ := this
  exact mn_ceq2 ha hb hn (fun j _ => by rw [he])
theorem dv_big {k R K : Nat} {A : Nat → Nat → Int} {z : Int} (h : R < k ∨ K < k) : dv k R K A z := by
  intro σ τ hs ht
  rcases h with h | h
  · rw [mn_nij (fun y => by have := pigeon k R σ y hs; omega)]; exact Int.dvd_zero z
  · rw [mn_nijc (fun y => by have := pigeon k K τ y ht; omega)]; exact Int.dvd_zero z
theorem dv_00 {R K : Nat} {A : Nat → Nat → Int} : ¬ dv 0 R K A 0 := by
  intro h
  have h1 : (0 : Int) ∣ 1 := h id id (fun a ha => by omega) (fun a ha => by omega)
  have := Int.zero_dvd.mp h1
  cases this
