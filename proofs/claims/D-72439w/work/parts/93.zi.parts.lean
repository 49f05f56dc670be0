/-! PLAIN LAW, 93.zi: the parts of a chain as numbers (no program in sight) -/
theorem rkN_is {R K : Nat} {A : Nat → Nat → Int} : isRk R K A (rkN R K A) := by
  obtain ⟨r, h⟩ := isRk_ex (R := R) (K := K) (A := A)
  rw [← rkN_eq h]; exact h
theorem mn_wrow {k : Nat} {A : Nat → Nat → Int} {w : Nat → Int} : mn k (fun a b => w a * A a b) = pr k w * mn k A := by
  have aux : ∀ t, t ≤ k → mn k (fun a b => if a < t then w a * A a b else A a b) = pr t w * mn k A := by
    intro t
    induction t with
    | zero =>
      intro _
      rw [mn_cg (B := A) (fun a b _ _ => by rw [if_neg (Nat.not_lt_zero a)])]
      show _ = 1 * _
      rw [Int.one_mul]
    | succ t ih =>
      intro ht
      have e := mn_row (n := k) (A := fun a b => if a < t then w a * A a b else A a b) (t := t) (u := A t) (v := A t) (x := w t) (y := 0) (by omega)
      have e1 : mn k (fun a b => if a < t + 1 then w a * A a b else A a b) = mn k (rwd (fun a b => if a < t then w a * A a b else A a b) t (fun j => w t * A t j + 0 * A t j)) := mn_cg fun a b _ _ => by
        unfold rwd
        by_cases c : a = t
        · rw [if_pos c, if_pos (by omega), c]
          show _ = w t * A t b + 0 * A t b
          rw [Int.zero_mul, Int.add_zero]
        · rw [if_neg c]
          show _ = if a < t then w a * A a b else A a b
          by_cases c2 : a < t
          · rw [if_pos c2, if_pos (by omega)]
          · rw [if_neg c2, if_neg (by omega)]
      have e2 : mn k (rwd (fun a b => if a < t then w a * A a b else A a b) t (A t)) = mn k (fun a b => if a < t then w a * A a b else A a b) := mn_cg fun a b _ _ => by
        unfold rwd
        by_cases c : a = t
        · rw [if_pos c, if_neg (by omega), c]
        · rw [if_neg c]
      rw [e1, e, e2, ih (by omega), Int.zero_mul, Int.add_zero, pr_succ]
      grind
  have := aux k (Nat.le_refl k)
  rwa [mn_cg (B := fun a b => w a * A a b) (fun a b ha _ => by rw [if_pos ha])] at this
theorem dv_wrow {k R K : Nat} {A : Nat → Nat → Int} {w : Nat → Int} (hw : ∀ i, i < R → w i ≠ 0) : dv k R K (fun i j => w i * A i j) 0 ↔ dv k R K A 0 := by
  constructor
  · intro h σ τ hs ht
    have := h σ τ hs ht
    rw [mn_wrow (A := fun a b => A (σ a) (τ b)) (w := fun a => w (σ a))] at this
    have z := Int.zero_dvd.mp this
    rcases Int.mul_eq_zero.mp z with y | y
    · exact absurd y (pr_ne fun a ha => hw _ (hs a ha))
    · rw [y]; exact Int.dvd_refl 0
  · intro h σ τ hs ht
    rw [mn_wrow (A := fun a b => A (σ a) (τ b)) (w := fun a => w (σ a)), Int.zero_dvd.mp (h σ τ hs ht), Int.mul_zero]
    exact Int.dvd_refl 0
/-- a determinant other than 0 -/
theorem mn_dv {n : Nat} {A : Nat → Nat → Int} (h : ¬ dv n n n A 0) : mn n A ≠ 0 := fun y => h (dv_inc.mpr fun σ τ i1 i2 i3 i4 => by
  rw [mn_cg (B := A) (fun a b ha hb => by rw [inc_id i1 i2 a ha, inc_id i3 i4 b hb]), y]
  exact Int.dvd_refl 0)
/-- rows whose sum is nothing -/
theorem mn_rsum {n : Nat} {A : Nat → Nat → Int} (hn : 0 < n) (h : ∀ b, b < n → jsum n (fun a => A a b) = 0) : mn n A = 0 := by
  have e := mn_rowsum (n := n) (m := n) (A := A) (t := 0) (w := fun _ => 1) (u := fun c => A c) hn
  rw [mn_row0 (t := 0) hn (fun b hb => by
    unfold rwd
    rw [if_pos rfl]
    show jsum n (fun c => 1 * A c b) = 0
    rw [jsum_cg (g := fun a => A a b) (fun c _ => Int.one_mul _)]
    exact h b hb)] at e
  rw [ds_one (t := 0) hn (fun c hc c0 => by
    rw [mn_eq2 (s := 0) (t := c) hn hc (fun y => c0 y.symm) (fun j _ => by unfold rwd; rw [if_pos rfl, if_neg c0]), Int.mul_zero])] at e
  rw [Int.one_mul, mn_cg (B := A) (fun a b _ _ => by
    unfold rwd
    by_cases c : a = 0
    · rw [if_pos c, c]
    · rw [if_neg c])] at e
  exact e.symm
/-- sets, one more each -/
theorem sN_or : ∀ k, k < 6 → ∀ s, s < 2 ^ k → sN (s ||| 2 ^ k) = sN s + 1 ∧ s ||| 2 ^ k < 2 ^ (k + 1) := by decide +kernel
noncomputable def gS (R : Nat) (F : Nat → Nat → Int) : Nat → Nat
  | 0 => 0
  | k + 1 => @ite Nat (rkN R (sN (gS R F k ||| 2 ^ k)) (smT F (gS R F k ||| 2 ^ k)) = sN (gS R F k ||| 2 ^ k)) (Classical.propDecidable _) (gS R F k ||| 2 ^ k) (gS R F k)
theorem gS_lt {R : Nat} {F : Nat → Nat → Int} : ∀ k, k ≤ 6 → gS R F k < 2 ^ k := by
  intro k
  induction k with
  | zero => intro _; exact Nat.zero_lt_one
  | succ k ih =>
    intro hk
    have := ih (by omega)
    have := (sN_or k (by omega) _ this).2
    have : 2 ^ (k + 1) = 2 * 2 ^ k := by rw [Nat.pow_succ, Nat.mul_comm]
    unfold gS
    split <;> omega
theorem gS_ind {R : Nat} {F : Nat → Nat → Int} : ∀ k, k ≤ 6 → rkN R (sN (gS R F k)) (smT F (gS R F k)) = sN (gS R F k) := by
  intro k
  induction k with
  | zero =>
    intro _
    have h : isRk R (sN 0) (smT F 0) 0 := ⟨Nat.zero_le _, Nat.zero_le _, dv_00, fun k hk => dv_big (.inr (by show 0 < k; exact hk))⟩
    have s0 : sN 0 = 0 := rfl
    show rkN R (sN 0) (smT F 0) = sN 0
    rw [← rkN_eq h, s0]
  | succ k ih =>
    intro hk
    unfold gS
    split
    · assumption
    · exact ih (by omega)
section PT
variable {C : CX}
/-- what spans a part: of each point (1), of each face (2) a column -/
def ptN (C : CX) (d : Nat) : Nat := if d = 1 then cP C else cF C
def ptB (C : CX) (d e j : Nat) : Int := if d = 1 then cOne C j e * (cEd C e 2 : Int) else cTwo C e j
def ptW (C : CX) (e : Nat) : Int := ((6 / cEd C e 2 : Nat) : Int)
def ptG (C : CX) (d i j : Nat) : Int := if d = 1 then cNear C 0 i j else jsum (cE C) (fun e => cTwo C e i * cTwo C e j * ptW C e)
def ptR (C : CX) (d ch j : Nat) : Int := if d = 1 then jsum (cE C) (fun e => cCh C ch e * cOne C j e) else jsum (cE C) (fun e => cTwo C e j * cCh C ch e * ptW C e)
noncomputable def ptS (C : CX) (d : Nat) : Nat := gS (cE C) (ptB C d) (ptN C d)
noncomputable def ptn (C : CX) (d : Nat) : Nat := sN (ptS C d)
noncomputable def ptM (C : CX) (d : Nat) : Nat → Nat → Int := fun i j => ptG C d (nt (ptS C d) i) (nt (ptS C d) j)
noncomputable def ptD (C : CX) (d : Nat) : Int := mn (ptn C d) (ptM C d)
noncomputable def ptK (C : CX) (d ch k : Nat) : Int := mn (ptn C d) (cwd (ptM C d) k (fun i => ptR C d ch (nt (ptS C d) i)))
noncomputable def ptA (C : CX) (d ch e : Nat) : Int := jsum (ptn C d) (fun j => ptB C d e (nt (ptS C d) j) * ptK C d ch j)
noncomputable def ptQ (C : CX) (d ch e : Nat) : Rat := Rat.divInt (ptA C d ch e) (ptD C d)
theorem ptN_le (hW : jWf C) {d : Nat} : ptN C d ≤ 5 := by
  have := hW.1
  have := hW.2.2.1
  unfold ptN
  split <;> omega
theorem ptS_lt (hW : jWf C) {d : Nat} : ptS C d < 2 ^ ptN C d := by
  have := ptN_le hW (d := d)
  exact gS_lt _ (by omega)
theorem ptS_64 (hW : jWf C) {d : Nat} : ptS C d < 64 := by
  have h1 := ptS_lt hW (d := d)
  have : 2 ^ ptN C d ≤ 2 ^ 5 := Nat.pow_le_pow_right (n := 2) (by decide) (ptN_le hW)
  omega
theorem ptW_6 (hW : jWf C) {e : Nat} (he : e < cE C) : (cEd C e 2 : Int) * ptW C e = 6 ∧ 2 ≤ ptW C e ∧ ptW C e ≤ 6 := by
  have := hW.2.2.2.1 e he
  unfold ptW
  rcases (show cEd C e 2 = 1 ∨ cEd C e 2 = 2 ∨ cEd C e 2 = 3 by omega) with h | h | h <;> rw [h] <;> decide
theorem nt_ptS (hW : jWf C) {d j : Nat} (hj : j < ptn C d) : nt (ptS C d) j < ptN C d := nt_lt (ptS_lt hW) (by have := ptN_le hW (d := d); omega) hj
theorem pt_ind (hW : jWf C) {d : Nat} : ¬ dv (ptn C d) (cE C) (ptn C d) (smT (ptB C d) (ptS C d)) 0 := by
  have h1 := rkN_is (R := cE C) (K := ptn C d) (A := smT (ptB C d) (ptS C d))
  have h2 : rkN (cE C) (ptn C d) (smT (ptB C d) (ptS C d)) = ptn C d := gS_ind _ (by have := ptN_le hW (d := d); omega)
  rw [h2] at h1
  exact h1.2.2.1
theorem pt_indR (hW : jWf C) : ¬ dv (ptn C 1) (ptn C 1) (cE C) (fun a e => cOne C (nt (ptS C 1) a) e) 0 := by
  intro h
  refine pt_ind hW (d := 1) ?_
  have h1 := (dv_wrow (w := fun e => (cEd C e 2 : Int)) (fun e he => by have := hW.2.2.2.1 e he; omega)).mpr (dv_tr h)
  refine dv_cg (fun e a _ _ => ?_) h1
  unfold smT ptB
  rw [if_pos rfl, Int.mul_comm]
theorem ptn_le (hW : jWf C) {d : Nat} (hd : d = 1 ∨ d = 2) : ptn C d ≤ 4 := by
  have h4 := hW.2.2.1
  have h5 := hW.1
  have hs := ptS_lt hW (d := d)
  have hn : ptn C d ≤ ptN C d := sN_K _ (by have := ptN_le hW (d := d); omega) _ hs
  rcases hd with rfl | rfl
  · rcases Nat.lt_or_ge (ptn C 1) 5 with c | c
    · omega
    · exfalso
      have n5 : ptn C 1 = 5 := by have : ptN C 1 = cP C := rfl; omega
      have p5 : cP C = 5 := by have : ptN C 1 = cP C := rfl; omega
      have hp : ptN C 1 = 5 := p5
      rw [hp] at hs
      have all : ∀ s, s < 2 ^ 5 → sN s = 5 → ∀ a, a < 5 → nt s a = a := by decide +kernel
      have hid := all _ hs n5
      refine pt_indR hW (dv_inc.mpr fun σ τ i1 i2 i3 i4 => ?_)
      rw [n5] at i1 i2 i3 i4 ⊢
      rw [mn_rsum (by decide) (fun b hb => ?_)]
      · exact Int.dvd_refl 0
      · have ed := hW.2.2.2.1 _ (i4 b hb)
        rw [jsum_cg (g := fun a => cOne C a (τ b)) (fun a ha => by rw [inc_id i1 i2 a ha, hid a ha])]
        unfold cOne
        generalize cEd C (τ b) 1 = x at ed ⊢
        generalize cEd C (τ b) 0 = y at ed ⊢
        have key : ∀ x, x < 5 → ∀ y, y < 5 → jsum 5 (fun a => (if x = a then (1 : Int) else 0) - (if y = a then 1 else 0)) = 0 := by decide
        exact key x (by omega) y (by omega)
  · have : ptN C 2 = cF C := rfl
    omega
theorem ptD_ne (hW : jWf C) {d : Nat} (hd : d = 1 ∨ d = 2) : ptD C d ≠ 0 := by
  refine mn_dv ?_
  rcases hd with rfl | rfl
  · have h := gram_rk (w := fun e => (cEd C e 2 : Int)) (fun e he => by have := hW.2.2.2.1 e he; omega) (pt_indR hW)
    intro y
    refine h (dv_cg (fun i j _ _ => ?_) y)
    unfold ptM ptG
    rw [if_pos rfl, near_gram0 hW (.inl rfl)]
    rfl
  · have h : ¬ dv (ptn C 2) (ptn C 2) (cE C) (fun a e => cTwo C e (nt (ptS C 2) a)) 0 := fun y => pt_ind hW (d := 2) (dv_cg (fun e a _ _ => by
      unfold smT ptB
      rw [if_neg (by decide)]) (dv_tr y))
    have h2 := gram_rk (w := ptW C) (fun e he => by have := ptW_6 hW he; omega) h
    intro y
    refine h2 (dv_cg (fun i j _ _ => ?_) y)
    unfold ptM ptG gramT
    rw [if_neg (by decide)]
    refine jsum_cg fun e _ => ?_
    rw [Int.mul_assoc, Int.mul_comm (ptW C e)]
end PT
