/-! PLAIN LAW, 93.zd: a turned table has the same minors; the rank of near tables (no program in sight) -/
theorem mn_addrow {n p : Nat} {A : Nat → Nat → Int} {q : Nat → Int} (hp : p < n) (hq : q p = 0) : mn n (fun i j => A i j - q i * A p j) = mn n A := by
  rw [mn_rows (R := A) (w := A p) (q := q)]
  have : jsum n (fun t => q t * mn n (rwd A t (A p))) = 0 := by
    refine ds_0 fun t ht => ?_
    by_cases c : t = p
    · rw [c, hq, Int.zero_mul]
    · rw [mn_eq2 (s := t) (t := p) ht hp c (fun j _ => by unfold rwd; rw [if_pos rfl, if_neg (fun y => c y.symm)]), Int.mul_zero]
  rw [this, Int.sub_zero]
theorem mn_addcol {n p : Nat} {A : Nat → Nat → Int} {q : Nat → Int} (hp : p < n) (hq : q p = 0) : mn n (fun i j => A i j - q j * A i p) = mn n A := by
  rw [mn_cols (R := A) (w := fun i => A i p) (q := q)]
  have : jsum n (fun t => q t * mn n (cwd A t (fun i => A i p))) = 0 := by
    refine ds_0 fun t ht => ?_
    by_cases c : t = p
    · rw [c, hq, Int.zero_mul]
    · rw [mn_ceq2 (s := t) (t := p) ht hp c (fun j _ => by unfold cwd; rw [if_pos rfl, if_neg (fun y => c y.symm)]), Int.mul_zero]
  rw [this, Int.sub_zero]
theorem mn_tr : ∀ {n : Nat} {A : Nat → Nat → Int}, mn n (fun i j => A j i) = mn n A := by
  intro n
  induction n with
  | zero => intro A; rfl
  | succ n ih =>
    have key : ∀ A : Nat → Nat → Int, A 0 0 ≠ 0 → mn (n + 1) (fun i j => A j i) = mn (n + 1) A := by
      intro A h0
      have e1 := mn_chi (n := n) (A := A)
      have e2 := mn_chi (n := n) (A := fun i j => A j i)
      have e3 : mn n (chi (fun i j => A j i)) = mn n (chi A) := by
        rw [← ih (A := chi A)]
        refine mn_cg fun i j _ _ => ?_
        unfold chi
        dsimp only
        rw [Int.mul_comm (A 0 (i + 1))]
      rw [e3, e1] at e2
      exact (Int.eq_of_mul_eq_mul_left (Int.pow_ne_zero h0) e2).symm
    intro A
    by_cases c : ∃ p, p < n + 1 ∧ A p 0 ≠ 0
    · obtain ⟨p, hp, h0⟩ := c
      by_cases z : A 0 0 = 0
      · have p0 : ¬ (0 = p) := fun y => h0 (by rw [← y]; exact z)
        have k := key (fun i j => A i j - (if i = 0 then -1 else 0) * A p j) (by rw [if_pos rfl, z]; omega)
        rw [mn_addrow (q := fun i => if i = 0 then -1 else 0) hp (by rw [if_neg (fun y => p0 y.symm)])] at k
        rw [← k]
        exact (mn_addcol (A := fun i j => A j i) (q := fun i => if i = 0 then -1 else 0) hp (by rw [if_neg (fun y => p0 y.symm)])).symm
      · exact key A z
    · have hc : ∀ p, p < n + 1 → A p 0 = 0 := fun p hp => Classical.byContradiction fun y => c ⟨p, hp, y⟩
      rw [mn_row0 (t := 0) (by omega) (fun j hj => hc j hj), mn_succ]
      exact (ds_0 (fun i hi => by rw [hc i hi, Int.zero_mul, Int.mul_zero])).symm
theorem dv_tr {k R K : Nat} {A : Nat → Nat → Int} {x : Int} (h : dv k R K A x) : dv k K R (fun i j => A j i) x := fun σ τ hs ht => by
  rw [← mn_tr]
  exact h τ σ ht hs
theorem dv_gram {k R K : Nat} {A : Nat → Nat → Int} {w : Nat → Int} (hw : ∀ c, c < K → 0 < w c) : dv k R K A 0 ↔ dv k R R (gramT K A w) 0 := by
  constructor
  · intro h
    exact dv_mul (B := fun c j => w c * A j c) h
  · intro h
    exact Classical.byContradiction fun y => gram_rk hw y h
section ND
variable {C : CX}
/-- the dimension whose table a near table comes of -/
def nrD (w : Nat) : Nat := if w = 2 then 2 else 1
theorem near_gram0 (hW : jWf C) {w : Nat} (h : w = 0 ∨ w = 2) : cNear C w = gramT (cCols C (nrD w)) (cTab C (nrD w)) (fun k => ((cWt C (nrD w) k : Nat) : Int)) := by
  funext i j
  unfold cNear gramT
  rcases h with rfl | rfl
  · rw [if_neg (by decide)]
    show jsum (cCols C 1) _ = jsum (cCols C 1) _
    congr 1
    funext k
    exact Int.mul_assoc _ _ _
  · rw [if_neg (by decide)]
    show jsum (cCols C 2) _ = jsum (cCols C 2) _
    congr 1
    funext k
    exact Int.mul_assoc _ _ _
theorem near_gram1 : cNear C 1 = gramT (cP C) (fun i p => cTab C 1 p i) (fun _ => 1) := by
  funext i j
  unfold cNear gramT cTab
  rw [if_pos rfl]
  congr 1
  funext p
  show _ = cOne C p i * (1 * cOne C p j)
  rw [Int.one_mul]
theorem cWt_pos (hW : jWf C) {d k : Nat} (hd : d = 1 ∨ d = 2) (hk : k < cCols C d) : 0 < cWt C d k := by
  unfold cWt
  rcases hd with rfl | rfl
  · rw [if_pos rfl]; have := hW.2.2.2.1 k hk; omega
  · rw [if_neg (by decide)]; have := hW.2.2.2.2.1 k hk; omega
theorem near_dv (hW : jWf C) {w : Nat} (hw : w < 3) (k : Nat) : dv k (cNs C w) (cNs C w) (cNear C w) 0 ↔ dv k (cRows C (nrD w)) (cCols C (nrD w)) (cTab C (nrD w)) 0 := by
  by_cases c : w = 1
  · subst c
    rw [near_gram1]
    show dv k (cE C) (cE C) _ 0 ↔ dv k (cP C) (cE C) (cTab C 1) 0
    rw [← dv_gram (K := cP C) (fun _ _ => by decide)]
    exact ⟨fun h => dv_tr h, fun h => dv_tr h⟩
  · have hd : nrD w = 1 ∨ nrD w = 2 := by unfold nrD; split <;> omega
    rw [near_gram0 hW (by omega), ← dv_gram (fun c hc => by have := cWt_pos hW hd hc; omega)]
    have : cNs C w = cRows C (nrD w) := by
      rcases (show w = 0 ∨ w = 2 by omega) with rfl | rfl <;> rfl
    rw [this]
theorem near_rk (hW : jWf C) {w k k' : Nat} (hw : w < 3) (h : isRk (cNs C w) (cNs C w) (cNear C w) k) (h' : isRk (cRows C (nrD w)) (cCols C (nrD w)) (cTab C (nrD w)) k') : k = k' := h.uniq h' (near_dv hW hw)
/-- a near table's numbers and the sizes of its determinants -/
def nrM (w : Nat) : Nat := if w = 0 then 18 else if w = 1 then 5 else 192
theorem near_abs (hW : jWf C) {w i j : Nat} (hw : w < 3) (hi : i < cNs C w) (hj : j < cNs C w) : (cNear C w i j).natAbs ≤ nrM w := by
  have h5 := hW.1
  have h6 := hW.2.1
  have h4 := hW.2.2.1
  have tri : ∀ {x y z : Int} {a b c : Int}, (-a ≤ x ∧ x ≤ a) → (-b ≤ y ∧ y ≤ b) → (0 ≤ z ∧ z ≤ c) → 0 ≤ a → 0 ≤ b → 0 ≤ c → - (a * c * b) ≤ x * z * y ∧ x * z * y ≤ a * c * b := by
    intro x y z a b c hx hy hz ha hb hc
    have h1 : (x * z * y).natAbs ≤ (a * c * b).natAbs := by
      rw [Int.natAbs_mul, Int.natAbs_mul, Int.natAbs_mul, Int.natAbs_mul]
      exact Nat.mul_le_mul (Nat.mul_le_mul (by omega) (by omega)) (by omega)
    have h2 : 0 ≤ a * c * b := Int.mul_nonneg (Int.mul_nonneg ha hc) hb
    omega
  have one : ∀ p e, -1 ≤ cOne C p e ∧ cOne C p e ≤ 1 := fun p e => by have := cOne_rg (C := C) (p := p) (e := e); omega
  rcases (show w = 0 ∨ w = 1 ∨ w = 2 by omega) with rfl | rfl | rfl
  · have := jsum_le (n := cCols C 1) (f := fun k => cTab C 1 i k * ((cWt C 1 k : Nat) : Int) * cTab C 1 j k) (a := 3) (fun k hk => by
      have h1 : cWt C 1 k ≤ 3 := (hW.2.2.2.1 k hk).2.2.2
      have := tri (one i k) (one j k) (show 0 ≤ ((cWt C 1 k : Nat) : Int) ∧ ((cWt C 1 k : Nat) : Int) ≤ 3 by omega) (by decide) (by decide) (by decide)
      exact this)
    have e : cNear C 0 i j = jsum (cCols C 1) (fun k => cTab C 1 i k * ((cWt C 1 k : Nat) : Int) * cTab C 1 j k) := rfl
    rw [e]
    show _ ≤ 18
    have : cCols C 1 = cE C := rfl
    omega
  · have := jsum_le (n := cP C) (f := fun p => cOne C p i * cOne C p j) (a := 1) (fun p _ => by
      have := tri (one p i) (one p j) (show (0 : Int) ≤ 1 ∧ (1 : Int) ≤ 1 by omega) (by decide) (by decide) (by decide)
      rw [Int.mul_one, Int.mul_one, Int.mul_one] at this
      exact this)
    have e : cNear C 1 i j = jsum (cP C) (fun p => cOne C p i * cOne C p j) := rfl
    rw [e]
    show _ ≤ 5
    omega
  · have := jsum_le (n := cCols C 2) (f := fun k => cTab C 2 i k * ((cWt C 2 k : Nat) : Int) * cTab C 2 j k) (a := 48) (fun k hk => by
      have h1 : cWt C 2 k ≤ 3 := (hW.2.2.2.2.1 k hk).2.1
      have t1 := cTab_rg hW (d := 2) (i := i) hk
      have t2 := cTab_rg hW (d := 2) (i := j) hk
      exact tri (a := 4) (b := 4) (by omega) (by omega) (show 0 ≤ ((cWt C 2 k : Nat) : Int) ∧ ((cWt C 2 k : Nat) : Int) ≤ 3 by omega) (by decide) (by decide) (by decide))
    have e : cNear C 2 i j = jsum (cCols C 2) (fun k => cTab C 2 i k * ((cWt C 2 k : Nat) : Int) * cTab C 2 j k) := rfl
    rw [e]
    show _ ≤ 192
    have : cCols C 2 = cF C := rfl
    omega
theorem jBd_near (hW : jWf C) {w k : Nat} (hw : w < 3) (h : isRk (cRows C (nrD w)) (cCols C (nrD w)) (cTab C (nrD w)) k) : k ≤ 5 ∧ jBd k (nrM w) := by
  have h5 := hW.1
  have h4 := hW.2.2.1
  rcases (show w = 0 ∨ w = 1 ∨ w = 2 by omega) with rfl | rfl | rfl
  · have hk : k ≤ cP C := h.1
    refine ⟨by omega, fun q hq => ?_, fun q hq => ?_⟩
    · rcases (show q = 0 ∨ q = 1 ∨ q = 2 ∨ q = 3 by omega) with rfl | rfl | rfl | rfl <;> decide
    · rcases (show q = 0 ∨ q = 1 ∨ q = 2 ∨ q = 3 ∨ q = 4 by omega) with rfl | rfl | rfl | rfl | rfl <;> decide
  · have hk : k ≤ cP C := h.1
    refine ⟨by omega, fun q hq => ?_, fun q hq => ?_⟩
    · rcases (show q = 0 ∨ q = 1 ∨ q = 2 ∨ q = 3 by omega) with rfl | rfl | rfl | rfl <;> decide
    · rcases (show q = 0 ∨ q = 1 ∨ q = 2 ∨ q = 3 ∨ q = 4 by omega) with rfl | rfl | rfl | rfl | rfl <;> decide
  · have hk : k ≤ cF C := h.2.1
    refine ⟨by omega, fun q hq => ?_, fun q hq => ?_⟩
    · rcases (show q = 0 ∨ q = 1 ∨ q = 2 by omega) with rfl | rfl | rfl <;> decide
    · rcases (show q = 0 ∨ q = 1 ∨ q = 2 ∨ q = 3 by omega) with rfl | rfl | rfl | rfl <;> decide
end ND
