/-! PLAIN LAW, 92.c: products of k of a row of numbers; the minors of a diagonal -/
def pr : Nat → (Nat → Int) → Int
  | 0, _ => 1
  | n + 1, f => pr n f * f n
theorem pr_succ {n : Nat} {f : Nat → Int} : pr (n + 1) f = pr n f * f n := rfl
theorem pr_cg {n : Nat} {f g : Nat → Int} (h : ∀ k, k < n → f k = g k) : pr n f = pr n g := by
  induction n with
  | zero => rfl
  | succ n ih => rw [pr_succ, pr_succ, ih (fun k hk => h k (by omega)), h n (by omega)]
/-- the product but for one place -/
theorem pr_dk {n p : Nat} {f : Nat → Int} (hp : p < n + 1) : pr (n + 1) f = f p * pr n (fun a => f (dk p a)) := by
  induction n with
  | zero =>
    have : p = 0 := by omega
    subst this
    show 1 * f 0 = f 0 * 1
    omega
  | succ n ih =>
    by_cases e : p = n + 1
    · subst e
      rw [pr_succ, Int.mul_comm]
      congr 1
      exact pr_cg (fun k hk => by unfold dk; rw [if_pos hk])
    · rw [pr_succ, ih (by omega), pr_succ (n := n)]
      have : dk p n = n + 1 := by unfold dk; rw [if_neg (by omega)]
      rw [this, Int.mul_assoc]
theorem pr_0 {n p : Nat} {f : Nat → Int} (hp : p < n) (h : f p = 0) : pr n f = 0 := by
  obtain ⟨n, rfl⟩ : ∃ k, n = k + 1 := ⟨n - 1, by omega⟩
  rw [pr_dk hp, h, Int.zero_mul]
theorem pr_ne {n : Nat} {f : Nat → Int} (h : ∀ k, k < n → f k ≠ 0) : pr n f ≠ 0 := by
  induction n with
  | zero => intro e; cases e
  | succ n ih => exact Int.mul_ne_zero (ih (fun k hk => h k (by omega))) (h n (by omega))
/-- one to one below k -/
def ij (k : Nat) (s : Nat → Nat) : Prop := ∀ a b, a < k → b < k → s a = s b → a = b
theorem dk_inj {p a b : Nat} (h : dk p a = dk p b) : a = b := by unfold dk at h; split at h <;> split at h <;> omega
theorem dk_ne {p a : Nat} : dk p a ≠ p := by unfold dk; split <;> omega
theorem dk_lt {p a n : Nat} (h : a < n) : dk p a < n + 1 := by unfold dk; split <;> omega
theorem dk_sur {p x n : Nat} (h : x ≠ p) (hx : x < n + 1) (hp : p < n + 1) : ∃ a, a < n ∧ dk p a = x := by
  by_cases c : x < p
  · exact ⟨x, by omega, by unfold dk; rw [if_pos c]⟩
  · exact ⟨x - 1, by omega, by unfold dk; rw [if_neg (by omega)]; omega⟩
/-- divides all products of k of d_0 .. d_(r-1) -/
def dvP (k r : Nat) (d : Nat → Int) (x : Int) : Prop := ∀ s : Nat → Nat, ij k s → (∀ a, a < k → s a < r) → x ∣ pr k (fun a => d (s a))
theorem dvP_cg {k r : Nat} {d e : Nat → Int} {x : Int} (h : ∀ i, i < r → d i = e i) (hd : dvP k r d x) : dvP k r e x := by
  intro s hi hs
  rw [← pr_cg (fun a ha => h (s a) (hs a ha))]
  exact hd s hi hs
theorem pr_abs {n : Nat} {f : Nat → Int} : pr n (fun k => ((f k).natAbs : Int)) = ((pr n f).natAbs : Int) := by
  induction n with
  | zero => rfl
  | succ n ih => rw [pr_succ, pr_succ, ih, Int.natAbs_mul, Int.natCast_mul]
theorem dvP_abs {k r : Nat} {d : Nat → Int} {x : Int} : dvP k r (fun i => ((d i).natAbs : Int)) x ↔ dvP k r d x := by
  constructor <;> intro h s hi hs <;> have := h s hi hs
  · rw [pr_abs (f := fun a => d (s a))] at this
    exact Int.dvd_natAbs.mp this
  · rw [pr_abs (f := fun a => d (s a))]
    exact Int.dvd_natAbs.mpr this
/-- the minors of a diagonal -/
def dgM (r : Nat) (d : Nat → Int) : Nat → Nat → Int := fun i j => if i = j ∧ i < r then d i else 0
theorem mn_dg : ∀ {k : Nat} {σ τ : Nat → Nat} {r : Nat} {d : Nat → Int}, ij k σ → mn k (fun a b => dgM r d (σ a) (τ b)) = 0 ∨ ∃ s : Nat → Nat, ij k s ∧ (∀ a, a < k → s a < r ∧ ∃ b, b < k ∧ s a = σ b) ∧ (mn k (fun a b => dgM r d (σ a) (τ b)) = pr k (fun a => d (s a)) ∨ mn k (fun a b => dgM r d (σ a) (τ b)) = - pr k (fun a => d (s a))) := by
  intro k
  induction k with
  | zero => intro σ τ r d _; exact .inr ⟨σ, fun a b ha => by omega, fun a ha => by omega, .inl rfl⟩
  | succ k ih =>
    intro σ τ r d hi
    rw [mn_succ]
    by_cases c : ∃ i, i < k + 1 ∧ σ i = τ 0 ∧ τ 0 < r
    · obtain ⟨i, h1, h2, h3⟩ := c
      rw [ds_one h1 (fun a ha hn => ?_)]
      · have e : dgM r d (σ i) (τ 0) = d (τ 0) := by unfold dgM; rw [if_pos ⟨h2, by omega⟩, h2]
        rw [e]
        have hi' : ij k (fun a => σ (dk i a)) := fun a b ha hb he => dk_inj (hi _ _ (dk_lt ha) (dk_lt hb) he)
        rcases ih (σ := fun a => σ (dk i a)) (τ := fun b => τ (b + 1)) (r := r) (d := d) hi' with z | ⟨s, s1, s2, s3⟩
        · left
          rw [z]; omega
        · right
          refine ⟨fun a => if a < k then s a else τ 0, fun a b ha hb he => ?_, fun a ha => ?_, ?_⟩
          · dsimp only at he
            have hx : ∀ a, a < k → s a ≠ τ 0 := fun a ha e => by
              obtain ⟨_, b, hb, hs⟩ := s2 a ha
              have : σ (dk i b) = σ i := by rw [← hs, e, h2]
              exact dk_ne (hi _ _ (dk_lt hb) h1 this)
            by_cases ca : a < k
            · rw [if_pos ca] at he
              by_cases cb : b < k
              · rw [if_pos cb] at he; exact s1 a b ca cb he
              · rw [if_neg cb] at he; exact absurd he (hx a ca)
            · rw [if_neg ca] at he
              by_cases cb : b < k
              · rw [if_pos cb] at he; exact absurd he.symm (hx b cb)
              · omega
          · dsimp only
            by_cases ca : a < k
            · rw [if_pos ca]
              obtain ⟨q1, b, hb, hs⟩ := s2 a ca
              exact ⟨q1, dk i b, dk_lt hb, hs⟩
            · rw [if_neg ca]
              exact ⟨h3, i, h1, h2.symm⟩
          · have e9 : pr (k + 1) (fun a => d ((fun a => if a < k then s a else τ 0) a)) = pr k (fun a => d (s a)) * d (τ 0) := by
              rw [pr_succ, pr_cg (g := fun a => d (s a)) (fun a ha => by dsimp only; rw [if_pos ha])]
              dsimp only
              rw [if_neg (Nat.lt_irrefl k)]
            rw [e9]
            have sg : sgn i = 1 ∨ sgn i = -1 := by unfold sgn; split <;> simp
            rcases s3 with s3 | s3 <;> rw [s3] <;> rcases sg with sg | sg <;> rw [sg] <;> grind
      · have : dgM r d (σ a) (τ 0) = 0 := by
          unfold dgM
          rw [if_neg]
          rintro ⟨q1, q2⟩
          exact hn (hi _ _ ha h1 (by rw [q1, h2]))
        rw [this]; omega
    · left
      refine ds_0 (fun a ha => ?_)
      have : dgM r d (σ a) (τ 0) = 0 := by
        unfold dgM
        rw [if_neg]
        rintro ⟨q1, q2⟩
        exact c ⟨a, ha, q1, by omega⟩
      rw [this]; omega
theorem mn_dgp : ∀ {k : Nat} {s : Nat → Nat} {r : Nat} {d : Nat → Int}, ij k s → (∀ a, a < k → s a < r) → mn k (fun a b => dgM r d (s a) (s b)) = pr k (fun a => d (s a)) := by
  intro k
  induction k with
  | zero => intro s r d _ _; rfl
  | succ k ih =>
    intro s r d hi hs
    rw [mn_succ, ds_one (t := 0) (by omega) (fun a ha hn => ?_)]
    · have e : dgM r d (s 0) (s 0) = d (s 0) := by unfold dgM; rw [if_pos ⟨rfl, hs 0 (by omega)⟩]
      have e2 : sgn 0 = 1 := rfl
      have e3 : (fun a b => dgM r d (s (dk 0 a)) (s (b + 1))) = fun a b => dgM r d (s (a + 1)) (s (b + 1)) := by
        funext a b
        have : dk 0 a = a + 1 := by unfold dk; rw [if_neg (by omega)]
        rw [this]
      rw [e, e2, e3, ih (s := fun a => s (a + 1)) (fun a b ha hb he => by have := hi _ _ (by omega) (by omega) he; omega) (fun a ha => hs _ (by omega)), pr_dk (p := 0) (by omega)]
      rw [Int.one_mul]
      congr 1
    · have : dgM r d (s a) (s 0) = 0 := by
        unfold dgM
        rw [if_neg]
        rintro ⟨q1, _⟩
        exact hn (hi _ _ ha (by omega) q1)
      rw [this]; omega
/-- rows that are not apart: no minor -/
theorem mn_nij {k : Nat} {A : Nat → Nat → Int} {σ τ : Nat → Nat} (h : ¬ ij k σ) : mn k (fun a b => A (σ a) (τ b)) = 0 := by
  unfold ij at h
  have : ∃ a b, a < k ∧ b < k ∧ σ a = σ b ∧ a ≠ b := Classical.byContradiction fun x => h (fun a b ha hb he => Classical.byContradiction fun y => x ⟨a, b, ha, hb, he, y⟩)
  obtain ⟨a, b, ha, hb, he, hn⟩ := this
  exact mn_eq2 ha hb hn (fun j _ => by rw [he])
theorem dv_dg {k r R K : Nat} {d : Nat → Int} {x : Int} (hR : r ≤ R) (hK : r ≤ K) : dv k R K (dgM r d) x ↔ dvP k r d x := by
  constructor
  · intro h s hi hs
    rw [← mn_dgp hi hs]
    exact h s s (fun a ha => by have := hs a ha; omega) (fun a ha => by have := hs a ha; omega)
  · intro h σ τ hs ht
    by_cases hi : ij k σ
    · rcases mn_dg (σ := σ) (τ := τ) (r := r) (d := d) hi with z | ⟨s, s1, s2, s3⟩
      · rw [z]; exact Int.dvd_zero x
      · have := h s s1 (fun a ha => (s2 a ha).1)
        rcases s3 with s3 | s3
        · rw [s3]; exact this
        · rw [s3]; exact Int.dvd_neg.mpr this
    · rw [mn_nij hi]; exact Int.dvd_zero x
/-! the least common multiple and the greatest common divisor in the place of two numbers -/
def upI (d : Nat → Int) (i : Nat) (v : Int) : Nat → Int := fun j => if j = i then v else d j
theorem pr_at {k p : Nat} {d : Nat → Int} {s : Nat → Nat} (hp : p < k) : ∃ y : Int, (∀ e : Nat → Int, (∀ a, a < k → a ≠ p → e (s a) = d (s a)) → pr k (fun a => e (s a)) = e (s p) * y) ∧ ∀ (s' : Nat → Nat) (e : Nat → Int), (∀ a, a < k → a ≠ p → s' a = s a) → (∀ a, a < k → a ≠ p → e (s a) = d (s a)) → pr k (fun a => e (s' a)) = e (s' p) * y := by
  obtain ⟨k, rfl⟩ : ∃ n, k = n + 1 := ⟨k - 1, by omega⟩
  refine ⟨pr k (fun a => d (s (dk p a))), fun e he => ?_, fun s' e h1 he => ?_⟩
  · rw [pr_dk hp]
    congr 1
    exact pr_cg (fun a ha => he _ (dk_lt ha) dk_ne)
  · rw [pr_dk hp]
    congr 1
    exact pr_cg (fun a ha => by rw [h1 _ (dk_lt ha) dk_ne]; exact he _ (dk_lt ha) dk_ne)
theorem dvP_gl {k r i j : Nat} {d : Nat → Int} {g l u v x : Int} (hi : i < r) (hj : j < r) (hn : i ≠ j) (h1 : d i = u * g) (h2 : d j = v * g) (hl : l = u * d j) (hg : ∃ a b, g = a * d i + b * d j) : dvP k r (upI (upI d i g) j l) x ↔ dvP k r d x := by
  have hgl : g * l = d i * d j := by rw [hl, h1]; grind
  have hfi : upI (upI d i g) j l i = g := by unfold upI; rw [if_neg hn, if_pos rfl]
  have hfj : upI (upI d i g) j l j = l := by unfold upI; rw [if_pos rfl]
  have hfo : ∀ m, m ≠ i → m ≠ j → upI (upI d i g) j l m = d m := fun m a b => by unfold upI; rw [if_neg b, if_neg a]
  obtain ⟨ca, cb, hg⟩ := hg
  generalize hf : upI (upI d i g) j l = f at *
  -- places of i, j
  have cases' : ∀ s : Nat → Nat, ij k s → (∀ a, a < k → s a < r) →
      (∃ p q, p < k ∧ q < k ∧ p ≠ q ∧ s p = i ∧ s q = j) ∨ (∃ p, p < k ∧ (s p = i ∨ s p = j) ∧ ∀ a, a < k → a ≠ p → s a ≠ i ∧ s a ≠ j) ∨ (∀ a, a < k → s a ≠ i ∧ s a ≠ j) := by
    intro s hs _
    by_cases e1 : ∃ p, p < k ∧ s p = i
    · obtain ⟨p, p1, p2⟩ := e1
      by_cases e2 : ∃ q, q < k ∧ s q = j
      · obtain ⟨q, q1, q2⟩ := e2
        exact .inl ⟨p, q, p1, q1, fun e => hn (by rw [← p2, ← q2, e]), p2, q2⟩
      · exact .inr (.inl ⟨p, p1, .inl p2, fun a ha hne => ⟨fun e => hne (hs a p ha p1 (by rw [e, p2])), fun e => e2 ⟨a, ha, e⟩⟩⟩)
    · by_cases e2 : ∃ q, q < k ∧ s q = j
      · obtain ⟨q, q1, q2⟩ := e2
        exact .inr (.inl ⟨q, q1, .inr q2, fun a ha hne => ⟨fun e => e1 ⟨a, ha, e⟩, fun e => hne (hs a q ha q1 (by rw [e, q2]))⟩⟩)
      · exact .inr (.inr (fun a ha => ⟨fun e => e1 ⟨a, ha, e⟩, fun e => e2 ⟨a, ha, e⟩⟩))
  -- both
  have both : ∀ (s : Nat → Nat) (p q : Nat), ij k s → p < k → q < k → p ≠ q → s p = i → s q = j → pr k (fun a => f (s a)) = pr k (fun a => d (s a)) := by
    intro s p q hs hp hq hpq sp sq
    obtain ⟨k, rfl⟩ : ∃ n, k = n + 2 := ⟨k - 2, by omega⟩
    obtain ⟨q', q1, q2⟩ := dk_sur (p := p) (x := q) (n := k + 1) (by omega) hq hp
    rw [pr_dk hp, pr_dk (n := k + 1) (p := p) hp, pr_dk (n := k) (p := q') q1, pr_dk (n := k) (p := q') q1]
    rw [q2, sp, sq, hfi, hfj]
    have : pr k (fun a => f (s (dk p (dk q' a)))) = pr k (fun a => d (s (dk p (dk q' a)))) := pr_cg (fun a ha => hfo _
      (fun e => dk_ne (hs _ _ (dk_lt (dk_lt ha)) hp (by rw [e, sp])))
      (fun e => dk_ne (dk_inj (show dk p (dk q' a) = dk p q' by rw [q2]; exact hs _ _ (dk_lt (dk_lt ha)) hq (by rw [e, sq])))))
    rw [this, ← Int.mul_assoc, ← Int.mul_assoc, hgl]
  have one : ∀ (s : Nat → Nat) (p m : Nat), ij k s → p < k → (∀ a, a < k → a ≠ p → s a ≠ i ∧ s a ≠ j) → (m = i ∨ m = j) → ij k (fun a => if a = p then m else s a) := by
    intro s p m hs hp ho hm a b ha hb he
    dsimp only at he
    by_cases c1 : a = p
    · by_cases c2 : b = p
      · omega
      · rw [if_pos c1, if_neg c2] at he
        have := ho b hb c2
        rcases hm with rfl | rfl
        · exact absurd he.symm this.1
        · exact absurd he.symm this.2
    · rw [if_neg c1] at he
      by_cases c2 : b = p
      · rw [if_pos c2] at he
        have := ho a ha c1
        rcases hm with rfl | rfl
        · exact absurd he this.1
        · exact absurd he this.2
      · rw [if_neg c2] at he; exact hs a b ha hb he
  constructor
  · intro h s hs hr
    rcases cases' s hs hr with ⟨p, q, a1, a2, a3, a4, a5⟩ | ⟨p, a1, a2, a3⟩ | a
    · rw [← both s p q hs a1 a2 a3 a4 a5]; exact h s hs hr
    · obtain ⟨y, y1, y2⟩ := pr_at (k := k) (p := p) (d := d) (s := s) a1
      have hi' := h _ (one s p i hs a1 a3 (.inl rfl)) (fun a ha => by split; exact hi; exact hr a ha)
      rw [y2 (fun a => if a = p then i else s a) f (fun a _ hne => if_neg hne) (fun a ha hne => hfo _ (a3 a ha hne).1 (a3 a ha hne).2)] at hi'
      rw [if_pos rfl, hfi] at hi'
      rw [y1 d (fun _ _ _ => rfl)]
      rcases a2 with e | e
      · rw [e, h1, Int.mul_assoc]; exact Int.dvd_trans hi' (Int.dvd_mul_left _ _)
      · rw [e, h2, Int.mul_assoc]; exact Int.dvd_trans hi' (Int.dvd_mul_left _ _)
    · rw [← pr_cg (f := fun a => f (s a)) (fun b hb => hfo _ (a b hb).1 (a b hb).2)]
      exact h s hs hr
  · intro h s hs hr
    rcases cases' s hs hr with ⟨p, q, a1, a2, a3, a4, a5⟩ | ⟨p, a1, a2, a3⟩ | a
    · rw [both s p q hs a1 a2 a3 a4 a5]; exact h s hs hr
    · obtain ⟨y, y1, y2⟩ := pr_at (k := k) (p := p) (d := d) (s := s) a1
      have hi' := h _ (one s p i hs a1 a3 (.inl rfl)) (fun a ha => by split; exact hi; exact hr a ha)
      have hj' := h _ (one s p j hs a1 a3 (.inr rfl)) (fun a ha => by split; exact hj; exact hr a ha)
      rw [y2 (fun a => if a = p then i else s a) d (fun a _ hne => if_neg hne) (fun _ _ _ => rfl), if_pos rfl] at hi'
      rw [y2 (fun a => if a = p then j else s a) d (fun a _ hne => if_neg hne) (fun _ _ _ => rfl), if_pos rfl] at hj'
      rw [y1 f (fun a ha hne => hfo _ (a3 a ha hne).1 (a3 a ha hne).2)]
      rcases a2 with e | e
      · rw [e, hfi, hg]
        have : (ca * d i + cb * d j) * y = ca * (d i * y) + cb * (d j * y) := by grind
        rw [this]
        exact Int.dvd_add (Int.dvd_trans hi' (Int.dvd_mul_left _ _)) (Int.dvd_trans hj' (Int.dvd_mul_left _ _))
      · rw [e, hfj, hl, Int.mul_assoc]
        exact Int.dvd_trans hj' (Int.dvd_mul_left _ _)
    · rw [pr_cg (g := fun a => d (s a)) (fun b hb => hfo _ (a b hb).1 (a b hb).2)]
      exact h s hs hr
