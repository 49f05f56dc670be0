/-! SIZES, 93.zyb: the potential: top minors under a clear of rows (no program in sight) -/
theorem npr_cg {n : Nat} {f g : Nat → Nat} (h : ∀ k, k < n → f k = g k) : npr n f = npr n g := by
  induction n with
  | zero => rfl
  | succ n ih => show npr n f * f n = npr n g * g n; rw [ih fun k hk => h k (by omega), h n (by omega)]
theorem npr_up {n t x : Nat} {f : Nat → Nat} (ht : t < n) : npr n (fun a => if a = t then x else f a) * f t = npr n f * x := by
  induction n with
  | zero => omega
  | succ n ih =>
    show npr n _ * (if n = t then x else f n) * f t = npr n f * f n * x
    by_cases c : n = t
    · subst c
      rw [if_pos rfl, npr_cg (g := f) (fun k hk => by rw [if_neg (by omega)]), Nat.mul_assoc, Nat.mul_comm x, Nat.mul_assoc]
    · rw [if_neg c]
      have := ih (by omega)
      calc npr n (fun a => if a = t then x else f a) * f n * f t = npr n (fun a => if a = t then x else f a) * f t * f n := by rw [Nat.mul_assoc, Nat.mul_comm (f n), ← Nat.mul_assoc]
        _ = npr n f * x * f n := by rw [this]
        _ = npr n f * f n * x := by rw [Nat.mul_assoc, Nat.mul_comm x, ← Nat.mul_assoc]
theorem npr_pos {n : Nat} {f : Nat → Nat} (h : ∀ k, k < n → 0 < f k) : 0 < npr n f := by
  induction n with
  | zero => exact Nat.zero_lt_one
  | succ n ih => exact Nat.mul_pos (ih fun k hk => h k (by omega)) (h n (by omega))
/-- indices of the inner part -/
def inr (k R n : Nat) (σ : Nat → Nat) : Prop := ∀ a, a < n → k ≤ σ a ∧ σ a < R
def Wt (k R : Nat) (o : Nat → Nat) : Nat := npr (R - k) (fun a => o (k + a))
/-- the potential -/
def topP (n R K' k : Nat) (F : Nat → Nat → Int) (o o' : Nat → Nat) (Kc : Nat) : Prop := ∀ σ τ, inr k R n σ → inr k K' n τ → (mn n (fun a b => F (σ a) (τ b))).natAbs * (Wt k R o * Wt k K' o') ≤ Kc * (npr n (fun a => o (σ a)) * npr n (fun b => o' (τ b)))
/-- inner minors of this size come to nothing -/
def van (n R K' k : Nat) (F : Nat → Nat → Int) : Prop := ∀ σ τ, inr k R n σ → inr k K' n τ → mn n (fun a b => F (σ a) (τ b)) = 0
theorem topP_tr {n R K' k : Nat} {F : Nat → Nat → Int} {o o' : Nat → Nat} {Kc : Nat} (h : topP n R K' k F o o' Kc) : topP n K' R k (fun i j => F j i) o' o Kc := fun σ τ hs ht => by
  have := h τ σ ht hs
  rw [Nat.mul_comm (Wt k R o), Nat.mul_comm (npr n fun a => o (τ a)), ← mn_tr] at this
  exact this
theorem van_tr {n R K' k : Nat} {F : Nat → Nat → Int} (h : van n R K' k F) : van n K' R k (fun i j => F j i) := fun σ τ hs ht => by
  have := h τ σ ht hs
  rw [← mn_tr] at this
  exact this
def upN (o : Nat → Nat) (k x : Nat) : Nat → Nat := fun i => if i = k then x else o i
theorem Wt_up {k R x : Nat} {o : Nat → Nat} (h : k < R) : Wt k R (upN o k x) * o k = Wt k R o * x := by
  have := npr_up (n := R - k) (t := 0) (x := x) (f := fun a => o (k + a)) (by omega)
  unfold Wt
  rw [npr_cg (g := fun a => if a = 0 then x else o (k + a)) (fun a _ => by
    unfold upN
    by_cases c : a = 0
    · rw [if_pos (by omega), if_pos c]
    · rw [if_neg (by omega), if_neg c])]
  exact this
theorem inr_cn {k R n : Nat} {σ : Nat → Nat} (hk : k < R) (h : inr k R n σ) : inr k R (n + 1) (cn k σ) := by
  intro a ha
  unfold cn
  split
  · exact ⟨Nat.le_refl _, hk⟩
  · exact h (a - 1) (by omega)
theorem inr_ch {k R n t : Nat} {σ : Nat → Nat} (hk : k < R) (h : inr k R n σ) : inr k R n (fun a => if a = t then k else σ a) := by
  intro a ha
  dsimp only
  split
  · exact ⟨Nat.le_refl _, hk⟩
  · exact h a ha
theorem xch_eq {F : Nat → Nat → Int} {n k t : Nat} {σ τ : Nat → Nat} : xch F n k σ τ t = mn n (fun a b => F (if a = t then k else σ a) (τ b)) := mn_cg fun a b _ _ => by
  unfold rwd
  split <;> rfl
theorem rowP_thru {F : Nat → Nat → Int} {n k t : Nat} {σ τ : Nat → Nat} (ht : t < n) (hk : σ t = k) (hi : ij n σ) (hge : ∀ a, a < n → k ≤ σ a) : mn n (fun a b => rowP F k (σ a) (τ b)) = mn n (fun a b => F (σ a) (τ b)) := by
  have e := mn_addrow (n := n) (p := t) (A := fun a b => F (σ a) (τ b)) (q := fun a => if a = t then 0 else (F (σ a) k).tdiv (F k k)) ht (by rw [if_pos rfl])
  rw [← e]
  refine mn_cg fun a b ha _ => ?_
  unfold rowP
  by_cases c : a = t
  · subst c
    rw [hk, if_neg (Nat.lt_irrefl k), if_pos rfl, Int.zero_mul, Int.sub_zero]
  · have : k ≠ σ a := fun y => c (hi a t ha ht (by rw [hk, ← y]))
    have := hge a ha
    rw [if_pos (by omega), if_neg c, hk]
theorem tm_sg {x p : Int} : (0 ≤ x → 0 ≤ x.tmod p ∧ x.tmod p ≤ x) ∧ (x ≤ 0 → x.tmod p ≤ 0 ∧ x ≤ x.tmod p) := by
  constructor
  · intro h
    have := Int.tmod_nonneg p h
    have : (x.tmod p).natAbs ≤ x.natAbs := by rw [Int.natAbs_tmod]; exact Nat.mod_le _ _
    omega
  · intro h
    have h2 : 0 ≤ (-x).tmod p := Int.tmod_nonneg p (by omega)
    rw [Int.neg_tmod] at h2
    have : (x.tmod p).natAbs ≤ x.natAbs := by rw [Int.natAbs_tmod]; exact Nat.mod_le _ _
    omega
theorem mul_sg {x y r : Int} (h : (0 ≤ x → 0 ≤ r ∧ r ≤ x) ∧ (x ≤ 0 → r ≤ 0 ∧ x ≤ r)) : (0 ≤ x * y → 0 ≤ r * y ∧ r * y ≤ x * y) ∧ (x * y ≤ 0 → r * y ≤ 0 ∧ x * y ≤ r * y) := by
  rcases Int.le_total 0 x with hx | hx
  · obtain ⟨a, b⟩ := h.1 hx
    rcases Int.le_total 0 y with hy | hy
    · have u := Int.mul_nonneg a hy
      have v := Int.mul_le_mul_of_nonneg_right b hy
      refine ⟨fun _ => ⟨u, v⟩, fun z => ⟨by omega, by omega⟩⟩
    · have u := Int.mul_nonpos_of_nonneg_of_nonpos a hy
      have v := Int.mul_le_mul_of_nonpos_right b hy
      refine ⟨fun z => ⟨by omega, by omega⟩, fun _ => ⟨u, v⟩⟩
  · obtain ⟨a, b⟩ := h.2 hx
    rcases Int.le_total 0 y with hy | hy
    · have u := Int.mul_nonpos_of_nonpos_of_nonneg a hy
      have v := Int.mul_le_mul_of_nonneg_right b hy
      refine ⟨fun z => ⟨by omega, by omega⟩, fun _ => ⟨u, v⟩⟩
    · have u := Int.mul_nonneg_of_nonpos_of_nonpos a hy
      have v := Int.mul_le_mul_of_nonpos_right b hy
      refine ⟨fun _ => ⟨u, v⟩, fun z => ⟨by omega, by omega⟩⟩
theorem van_rowP {n R K' k : Nat} {F : Nat → Nat → Int} (hk : k < R) (h : van n R K' k F) : van n R K' k (rowP F k) := by
  intro σ τ hs ht
  have e : mn n (fun a b => rowP F k (σ a) (τ b)) = mn n (fun a b => F (σ a) (τ b)) - jsum n (fun t => (if k < σ t then (F (σ t) k).tdiv (F k k) else 0) * mn n (rwd (fun a b => F (σ a) (τ b)) t (fun b => F k (τ b)))) := by
    have r := mn_rows (n := n) (R := fun a b => F (σ a) (τ b)) (w := fun b => F k (τ b)) (q := fun a => if k < σ a then (F (σ a) k).tdiv (F k k) else 0)
    refine Eq.trans (mn_cg fun a b ha _ => ?_) r
    unfold rowP
    by_cases c : k < σ a
    · rw [if_pos c, if_pos c]
    · rw [if_neg c, if_neg c, Int.zero_mul, Int.sub_zero]
  rw [e, h σ τ hs ht, ds_0 (fun t ht' => ?_)]
  · rfl
  · have : mn n (rwd (fun a b => F (σ a) (τ b)) t (fun b => F k (τ b))) = 0 := by
      have := h (fun a => if a = t then k else σ a) τ (inr_ch hk hs) ht
      rw [← xch_eq] at this
      exact this
    rw [this, Int.mul_zero]
theorem topP_row {n R K' k Kc : Nat} {F : Nat → Nat → Int} {o o' : Nat → Nat} (hn : n ≤ 3) (hkR : k < R) (hkK : k < K') (hp : F k k ≠ 0) (hv : van (n + 1) R K' k F) (ho : ∀ l, k ≤ l → l < R → 0 < o l) (hr : ∀ l, k < l → l < R → 2 * ((F l k).tmod (F k k)).natAbs ≤ o l) (hpk : (F k k).natAbs ≤ o k) (h : topP n R K' k F o o' Kc) : topP n R K' k (rowP F k) (upN o k (F k k).natAbs) o' Kc := by
  intro σ τ hs ht
  have hW := Wt_up (x := (F k k).natAbs) (o := o) hkR
  have ok0 := ho k (Nat.le_refl _) hkR
  by_cases hi : ij n σ
  · by_cases hk : ∃ t, t < n ∧ σ t = k
    · obtain ⟨t, t1, t2⟩ := hk
      rw [rowP_thru t1 t2 hi (fun a ha => (hs a ha).1)]
      have b := h σ τ hs ht
      have u := npr_up (n := n) (t := t) (x := (F k k).natAbs) (f := fun a => o (σ a)) t1
      have e : npr n (fun a => upN o k (F k k).natAbs (σ a)) = npr n (fun a => if a = t then (F k k).natAbs else o (σ a)) := npr_cg fun a ha => by
        unfold upN
        by_cases c : a = t
        · rw [if_pos (by rw [c, t2]), if_pos c]
        · rw [if_neg (fun y => c (hi a t ha t1 (by rw [t2, y]))), if_neg c]
      rw [e]
      rw [t2] at u
      refine Nat.le_of_mul_le_mul_right ?_ ok0
      generalize npr n (fun a => if a = t then (F k k).natAbs else o (σ a)) = x at *
      generalize npr n (fun a => o (σ a)) = y at *
      generalize npr n (fun b => o' (τ b)) = z at *
      generalize Wt k R (upN o k (F k k).natAbs) = w at *
      generalize Wt k R o = v at *
      generalize Wt k K' o' = v' at *
      generalize (mn n fun a b => F (σ a) (τ b)).natAbs = m at *
      generalize (F k k).natAbs = p at *
      calc m * (w * v') * o k = m * ((w * o k) * v') := by grind
        _ = m * (v * v') * p := by rw [hW]; grind
        _ ≤ Kc * (y * z) * p := Nat.mul_le_mul_right _ b
        _ = Kc * ((y * p) * z) := by grind
        _ = Kc * (x * z) * o k := by rw [← u]; grind
    · have gt : ∀ a, a < n → k < σ a := fun a ha => by
        have := (hs a ha).1
        have : σ a ≠ k := fun y => hk ⟨a, ha, y⟩
        omega
      have e : npr n (fun a => upN o k (F k k).natAbs (σ a)) = npr n (fun a => o (σ a)) := npr_cg fun a ha => by
        unfold upN
        rw [if_neg (by have := gt a ha; omega)]
      rw [e]
      have z := hv (cn k σ) (cn k τ) (inr_cn hkR hs) (inr_cn hkK ht)
      have m1 := mn_piv (σ := σ) (τ := τ) (n := n) hp
      have m2 := mn_rowP (σ := σ) (τ := τ) (n := n) hp gt
      rw [z, Int.zero_add] at m1 m2
      have b := h σ τ hs ht
      generalize hWW : Wt k R o * Wt k K' o' = W at *
      have cs := co_sum (n := n) (T := fun t => (2 * W : Nat) * (F (σ t) k * xch F n k σ τ t)) (T' := fun t => (2 * W : Nat) * ((F (σ t) k).tmod (F k k) * xch F n k σ τ t)) (c := Kc * (o k * (npr n (fun a => o (σ a)) * npr n (fun b => o' (τ b))))) (fun t _ => by
        have s := mul_sg (y := xch F n k σ τ t) (tm_sg (x := F (σ t) k) (p := F k k))
        have w0 : (0 : Int) ≤ ((2 * W : Nat) : Int) := Int.natCast_nonneg _
        generalize ((2 * W : Nat) : Int) = w at *
        generalize F (σ t) k * xch F n k σ τ t = x at *
        generalize (F (σ t) k).tmod (F k k) * xch F n k σ τ t = y at *
        rcases Int.lt_or_eq_of_le w0 with w1 | w1
        · refine ⟨fun q => ?_, fun q => ?_⟩
          · have : 0 ≤ x := by
              rcases Int.lt_trichotomy x 0 with c | c | c
              · have := Int.mul_neg_of_pos_of_neg w1 c; omega
              · omega
              · omega
            obtain ⟨s1, s2⟩ := s.1 this
            exact ⟨Int.mul_nonneg w0 s1, Int.mul_le_mul_of_nonneg_left s2 w0⟩
          · have : x ≤ 0 := by
              rcases Int.lt_trichotomy x 0 with c | c | c
              · omega
              · omega
              · have := Int.mul_pos w1 c; omega
            obtain ⟨s1, s2⟩ := s.2 this
            exact ⟨Int.mul_nonpos_of_nonneg_of_nonpos w0 s1, Int.mul_le_mul_of_nonneg_left s2 w0⟩
        · rw [← w1, Int.zero_mul, Int.zero_mul]
          exact ⟨fun _ => ⟨Int.le_refl _, Int.le_refl _⟩, fun _ => ⟨Int.le_refl _, Int.le_refl _⟩⟩) (fun t ht' => by
        have r := hr (σ t) (gt t ht') (hs t ht').2
        have x1 := h (fun a => if a = t then k else σ a) τ (inr_ch hkR hs) ht
        rw [hWW, ← xch_eq] at x1
        have u := npr_up (n := n) (t := t) (x := o k) (f := fun a => o (σ a)) ht'
        have ee : npr n (fun a => o (if a = t then k else σ a)) = npr n (fun a => if a = t then o k else o (σ a)) := npr_cg fun a _ => by split <;> rfl
        rw [ee] at x1
        rw [Int.natAbs_mul, Int.natAbs_mul, Int.natAbs_natCast]
        generalize npr n (fun a => if a = t then o k else o (σ a)) = x at *
        generalize npr n (fun a => o (σ a)) = y at *
        generalize npr n (fun b => o' (τ b)) = z' at *
        generalize (xch F n k σ τ t).natAbs = m at *
        generalize ((F (σ t) k).tmod (F k k)).natAbs = q at *
        calc 2 * W * (q * m) = (2 * q) * (m * W) := by grind
          _ ≤ o (σ t) * (Kc * (x * z')) := Nat.mul_le_mul r x1
          _ = Kc * ((x * o (σ t)) * z') := by grind
          _ = Kc * (o k * (y * z')) := by rw [u]; grind)
      rw [ds_mul, ds_mul, ← m1, ← m2, Int.natAbs_mul, Int.natAbs_mul, Int.natAbs_mul, Int.natAbs_mul, Int.natAbs_natCast] at cs
      refine Nat.le_of_mul_le_mul_right ?_ ok0
      have p0 : 0 < (F k k).natAbs := Int.natAbs_pos.mpr hp
      have w1 : Wt k R (upN o k (F k k).natAbs) * Wt k K' o' * o k = W * (F k k).natAbs := by
        rw [← hWW]
        calc Wt k R (upN o k (F k k).natAbs) * Wt k K' o' * o k = (Wt k R (upN o k (F k k).natAbs) * o k) * Wt k K' o' := by grind
          _ = _ := by rw [hW]; grind
      generalize npr n (fun a => o (σ a)) = y at *
      generalize npr n (fun b => o' (τ b)) = z' at *
      generalize Wt k R (upN o k (F k k).natAbs) * Wt k K' o' = w at *
      generalize (mn n fun a b => rowP F k (σ a) (τ b)).natAbs = m' at *
      generalize (mn n fun a b => F (σ a) (τ b)).natAbs = m at *
      generalize (F k k).natAbs = p at *
      have goal : m' * (W * p) ≤ Kc * (y * z') * o k := by
        rcases cs with c1 | c1
        · have c2 : 2 * (m' * (W * p)) ≤ 2 * (m * W * p) := by
            calc 2 * (m' * (W * p)) = 2 * W * (p * m') := by grind
              _ ≤ 2 * W * (p * m) := c1
              _ = _ := by grind
          have c3 : m * W * p ≤ Kc * (y * z') * o k := Nat.mul_le_mul b hpk
          omega
        · have c2 : 2 * (m' * (W * p)) ≤ 2 * (Kc * (y * z') * o k) := by
            calc 2 * (m' * (W * p)) = 2 * W * (p * m') := by grind
              _ ≤ (n - 1) * (Kc * (o k * (y * z'))) := c1
              _ ≤ 2 * (Kc * (o k * (y * z'))) := Nat.mul_le_mul_right _ (by omega)
              _ = _ := by grind
          omega
      calc m' * w * o k = m' * (w * o k) := by grind
        _ = m' * (W * p) := by rw [w1]
        _ ≤ _ := goal
  · rw [mn_nij (A := rowP F k) hi]
    show 0 * _ ≤ _
    rw [Nat.zero_mul]
    exact Nat.zero_le _
