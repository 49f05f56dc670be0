/-! PLAIN LAW, 92.e: minors in order -/
def inc (k : Nat) (σ : Nat → Nat) : Prop := ∀ a, a + 1 < k → σ a < σ (a + 1)
/-- the weight that grows as it is put in order -/
def wgt (k : Nat) (σ : Nat → Nat) : Int := jsum k (fun a => (a : Int) * σ a)
def sws (σ : Nat → Nat) (t : Nat) : Nat → Nat := fun a => σ (if a = t then t + 1 else if a = t + 1 then t else a)
theorem wgt_sw {k t : Nat} {σ : Nat → Nat} (h : t + 1 < k) : wgt k (sws σ t) = wgt k σ + ((σ t : Int) - σ (t + 1)) := by
  have e : wgt k (sws σ t) - wgt k σ = (σ t : Int) - σ (t + 1) := by
    have l := ds_lin (n := k) (f := fun a => (a : Int) * sws σ t a) (g := fun a => (a : Int) * σ a) (x := 1) (y := -1)
    simp only [Int.one_mul] at l
    have : wgt k (sws σ t) - wgt k σ = jsum k (fun a => (a : Int) * sws σ t a + -1 * ((a : Int) * σ a)) := by rw [l]; unfold wgt; omega
    rw [this, ds_two h (fun a _ h1 h2 => ?_)]
    · unfold sws
      rw [if_pos rfl, if_neg (by omega), if_pos rfl]
      have : ((t + 1 : Nat) : Int) = (t : Int) + 1 := by omega
      rw [this]
      grind
    · unfold sws
      rw [if_neg h1, if_neg h2]
      omega
  omega
theorem wgt_le {k R : Nat} {σ : Nat → Nat} (h : ∀ a, a < k → σ a < R) : wgt k σ ≤ (k * (k * R) : Nat) := by
  have := ds_abs (n := k) (f := fun a => (a : Int) * σ a) (b := k * R) (fun a ha => by
    rw [Int.natAbs_mul]
    have := h a ha
    exact Nat.mul_le_mul (by omega) (by omega))
  unfold wgt
  omega
theorem sws_lt {k R t : Nat} {σ : Nat → Nat} (h : ∀ a, a < k → σ a < R) (ht : t + 1 < k) : ∀ a, a < k → sws σ t a < R := fun a ha => by
  unfold sws
  refine h _ ?_
  split
  · omega
  · split <;> omega
theorem not_inc {k : Nat} {σ : Nat → Nat} (h : ¬ inc k σ) : ∃ t, t + 1 < k ∧ σ (t + 1) ≤ σ t := by
  unfold inc at h
  refine Classical.byContradiction fun y => h (fun a ha => ?_)
  refine Nat.lt_of_not_le fun z => y ⟨a, ha, z⟩
theorem dv_incR {k R K : Nat} {A : Nat → Nat → Int} {x : Int} {τ : Nat → Nat} (h : ∀ σ, inc k σ → (∀ a, a < k → σ a < R) → x ∣ mn k (fun a b => A (σ a) (τ b))) : ∀ (w : Nat) (σ : Nat → Nat), (∀ a, a < k → σ a < R) → (k * (k * R) : Nat) - wgt k σ ≤ (w : Int) → x ∣ mn k (fun a b => A (σ a) (τ b)) := by
  intro w
  induction w with
  | zero =>
    intro σ hs hw
    by_cases c : inc k σ
    · exact h σ c hs
    · obtain ⟨t, t1, t2⟩ := not_inc c
      by_cases e : σ (t + 1) = σ t
      · rw [mn_adj t1 (fun j _ => by rw [e])]; exact Int.dvd_zero x
      · have := wgt_sw (σ := σ) t1
        have := wgt_le (sws_lt hs t1)
        omega
  | succ w ih =>
    intro σ hs hw
    by_cases c : inc k σ
    · exact h σ c hs
    · obtain ⟨t, t1, t2⟩ := not_inc c
      by_cases e : σ (t + 1) = σ t
      · rw [mn_adj t1 (fun j _ => by rw [e])]; exact Int.dvd_zero x
      · have e1 := wgt_sw (σ := σ) t1
        have := ih (sws σ t) (sws_lt hs t1) (by omega)
        have e2 := mn_sw (n := k) (A := fun a b => A (σ a) (τ b)) t1
        have e3 : mn k (fun a b => A (sws σ t a) (τ b)) = - mn k (fun a b => A (σ a) (τ b)) := e2
        rw [e3] at this
        exact Int.dvd_neg.mp this
theorem dv_incC {k K : Nat} {A : Nat → Nat → Int} {x : Int} {σ : Nat → Nat} (h : ∀ τ, inc k τ → (∀ a, a < k → τ a < K) → x ∣ mn k (fun a b => A (σ a) (τ b))) : ∀ (w : Nat) (τ : Nat → Nat), (∀ a, a < k → τ a < K) → (k * (k * K) : Nat) - wgt k τ ≤ (w : Int) → x ∣ mn k (fun a b => A (σ a) (τ b)) := by
  intro w
  induction w with
  | zero =>
    intro τ hs hw
    by_cases c : inc k τ
    · exact h τ c hs
    · obtain ⟨t, t1, t2⟩ := not_inc c
      by_cases e : τ (t + 1) = τ t
      · rw [mn_cadj t t1 (fun j _ => by rw [e])]; exact Int.dvd_zero x
      · have := wgt_sw (σ := τ) t1
        have := wgt_le (sws_lt hs t1)
        omega
  | succ w ih =>
    intro τ hs hw
    by_cases c : inc k τ
    · exact h τ c hs
    · obtain ⟨t, t1, t2⟩ := not_inc c
      by_cases e : τ (t + 1) = τ t
      · rw [mn_cadj t t1 (fun j _ => by rw [e])]; exact Int.dvd_zero x
      · have e1 := wgt_sw (σ := τ) t1
        have := ih (sws τ t) (sws_lt hs t1) (by omega)
        have e2 := mn_csw (n := k) (A := fun a b => A (σ a) (τ b)) t1
        have e3 : mn k (fun a b => A (σ a) (sws τ t b)) = - mn k (fun a b => A (σ a) (τ b)) := e2
        rw [e3] at this
        exact Int.dvd_neg.mp this
/-- minors in order are enough -/
theorem dv_inc {k R K : Nat} {A : Nat → Nat → Int} {x : Int} : dv k R K A x ↔ ∀ σ τ, inc k σ → (∀ a, a < k → σ a < R) → inc k τ → (∀ b, b < k → τ b < K) → x ∣ mn k (fun a b => A (σ a) (τ b)) := by
  constructor
  · intro h σ τ _ hs _ ht
    exact h σ τ hs ht
  · intro h σ τ hs ht
    refine dv_incR (K := K) (fun σ' i1 i2 => dv_incC (fun τ' j1 j2 => h σ' τ' i1 i2 j1 j2) ((k * (k * K) : Nat) - wgt k τ).toNat τ ht (by omega)) ((k * (k * R) : Nat) - wgt k σ).toNat σ hs (by omega)
/-- the greatest common divisor of all minors, by what divides them -/
def jG (k R K : Nat) (A : Nat → Nat → Int) (g : Int) : Prop := 0 ≤ g ∧ ∀ d, dv k R K A d ↔ d ∣ g
theorem jG.eq {k R K R' K' : Nat} {A B : Nat → Nat → Int} {g h : Int} (a : jG k R K A g) (b : jG k R' K' B h) (e : ∀ d, dv k R K A d ↔ dv k R' K' B d) : g = h := by
  have h1 : g ∣ h := (b.2 g).mp ((e g).mp ((a.2 g).mpr (Int.dvd_refl g)))
  have h2 : h ∣ g := (a.2 h).mp ((e h).mpr ((b.2 h).mpr (Int.dvd_refl h)))
  exact Int.dvd_antisymm a.1 b.1 h1 h2
/-- the products of a row each of which divides the next one -/
theorem dvP_chain {k r : Nat} {d : Nat → Int} (hk : k ≤ r) (h : ∀ i j, i ≤ j → j < r → d i ∣ d j) {x : Int} : dvP k r d x ↔ x ∣ pr k d := by
  constructor
  · intro hd
    exact hd (fun a => a) (fun a b _ _ e => e) (fun a ha => by omega)
  · intro hx s
    -- by the greatest place
    have key : ∀ (k : Nat) (s : Nat → Nat), ij k s → (∀ a, a < k → s a < r) → pr k d ∣ pr k (fun a => d (s a)) := by
      intro k
      induction k with
      | zero => intro s _ _; exact Int.dvd_refl _
      | succ k ih =>
        intro s hi hs
        -- some s p is at least k
        have : ∃ p, p < k + 1 ∧ k ≤ s p := by
          refine Classical.byContradiction fun y => ?_
          have hb : ∀ a, a < k + 1 → s a < k := fun a ha => Nat.lt_of_not_le fun z => y ⟨a, ha, z⟩
          -- k + 1 places in k
          have ph : ∀ (n m : Nat) (f : Nat → Nat), ij n f → (∀ a, a < n → f a < m) → n ≤ m := by
            intro n
            induction n with
            | zero => intro m f _ _; omega
            | succ n ihn =>
              intro m f fi fm
              have f0 := fm n (by omega)
              have := ihn (m - 1) (fun a => if f a < f n then f a else f a - 1) (fun a b ha hb e => by
                have na : f a ≠ f n := fun q => by have := fi a n (by omega) (by omega) q; omega
                have nb : f b ≠ f n := fun q => by have := fi b n (by omega) (by omega) q; omega
                refine fi a b (by omega) (by omega) ?_
                dsimp only at e
                split at e <;> split at e <;> omega) (fun a ha => by
                have na : f a ≠ f n := fun q => by have := fi a n (by omega) (by omega) q; omega
                have := fm a (by omega)
                split <;> omega)
              omega
          have := ph (k + 1) k s hi hb
          omega
        obtain ⟨p, p1, p2⟩ := this
        have e1 := pr_dk (n := k) (f := fun a => d (s a)) p1
        rw [e1, pr_succ, Int.mul_comm]
        exact Int.mul_dvd_mul (h k (s p) p2 (hs p p1)) (ih (fun a => s (dk p a)) (fun a b ha hb e => dk_inj (hi _ _ (dk_lt ha) (dk_lt hb) e)) (fun a ha => hs _ (dk_lt ha)))
    exact fun hi hs => Int.dvd_trans hx (key k s hi hs)
