/-! PLAIN LAW, 93.zc: the rank of a product of a table with itself (no program in sight) -/
def gramT (K : Nat) (A : Nat → Nat → Int) (w : Nat → Int) : Nat → Nat → Int := fun i j => jsum K (fun c => A i c * (w c * A j c))
theorem ds_dbl {n K : Nat} {co w : Nat → Int} {A : Nat → Nat → Int} {p : Nat → Nat} : jsum n (fun b => co b * jsum n (fun a => co a * gramT K A w (p a) (p b))) = jsum K (fun c => w c * (jsum n (fun a => co a * A (p a) c) * jsum n (fun a => co a * A (p a) c))) := by
  have e1 : ∀ b, jsum n (fun a => co a * gramT K A w (p a) (p b)) = jsum K (fun c => (w c * A (p b) c) * jsum n (fun a => co a * A (p a) c)) := by
    intro b
    have : (fun a => co a * gramT K A w (p a) (p b)) = fun a => jsum K (fun c => (w c * A (p b) c) * (co a * A (p a) c)) := by
      funext a
      unfold gramT
      rw [← ds_mul]
      congr 1
      funext c
      grind
    rw [this, ds_swap]
    congr 1
    funext c
    rw [ds_mul]
  have : (fun b => co b * jsum n (fun a => co a * gramT K A w (p a) (p b))) = fun b => jsum K (fun c => (w c * jsum n (fun a => co a * A (p a) c)) * (co b * A (p b) c)) := by
    funext b
    rw [e1, ← ds_mul]
    congr 1
    funext c
    grind
  rw [this, ds_swap]
  congr 1
  funext c
  rw [ds_mul]
  grind
theorem dv0_ex {k R K : Nat} {A : Nat → Nat → Int} (h : ¬ dv k R K A 0) : ∃ σ τ : Nat → Nat, (∀ a, a < k → σ a < R) ∧ (∀ b, b < k → τ b < K) ∧ mn k (fun a b => A (σ a) (τ b)) ≠ 0 := by
  refine Classical.byContradiction fun y => h fun σ τ hs ht => ?_
  have : mn k (fun a b => A (σ a) (τ b)) = 0 := Classical.byContradiction fun z => y ⟨σ, τ, hs, ht, z⟩
  rw [this]
  exact Int.dvd_refl _
theorem out_ex {n m : Nat} {f : Nat → Nat} (h : m < n) : ∃ i, i < n ∧ ∀ a, a < m → f a ≠ i := by
  refine Classical.byContradiction fun y => ?_
  have hx : ∀ i, i < n → ∃ a, a < m ∧ f a = i := fun i hi => Classical.byContradiction fun z => y ⟨i, hi, fun a ha e => z ⟨a, ha, e⟩⟩
  have := pigeon n m (fun i => @dite Nat (∃ a, a < m ∧ f a = i) (Classical.propDecidable _) (fun h => Classical.choose h) (fun _ => 0)) (fun a b ha hb e => by
    dsimp only at e
    rw [dif_pos (hx a ha), dif_pos (hx b hb)] at e
    rw [← (Classical.choose_spec (hx a ha)).2, ← (Classical.choose_spec (hx b hb)).2, e]) (fun a ha => by
    rw [dif_pos (hx a ha)]
    exact (Classical.choose_spec (hx a ha)).1)
  omega
theorem gram_rk {R K r : Nat} {A : Nat → Nat → Int} {w : Nat → Int} (hw : ∀ c, c < K → 0 < w c) (h : ¬ dv r R K A 0) : ¬ dv r R R (gramT K A w) 0 := by
  intro hN
  obtain ⟨σ, τ, hs, ht, hm⟩ := dv0_ex h
  have d0 : dv r r r (fun a b => gramT K A w (σ a) (σ b)) 0 := fun s t h1 h2 => hN (fun a => σ (s a)) (fun b => σ (t b)) (fun a ha => hs _ (h1 a ha)) (fun b hb => hs _ (h2 b hb))
  obtain ⟨q, hq⟩ := isRk_ex (R := r) (K := r) (A := fun a b => gramT K A w (σ a) (σ b))
  have qr : q < r := by
    have := hq.1
    rcases Nat.lt_or_ge q r with c | c
    · exact c
    · exact absurd (show dv q r r (fun a b => gramT K A w (σ a) (σ b)) 0 by rw [show q = r by omega]; exact d0) hq.2.2.1
  obtain ⟨s', t', hs', ht', hm'⟩ := dv0_ex hq.2.2.1
  obtain ⟨i0, hi0, hout⟩ := out_ex (f := s') qr
  have z := ker_of (A := fun a b => gramT K A w (σ a) (σ b)) (R := r) (K := r) (r := q) (σ := s') (τ := t') (i0 := i0) (fun u v hu hv => Int.zero_dvd.mp (hq.2.2.2 (q + 1) (by omega) u v hu hv)) hs' ht' hi0
  generalize hco : (fun a => sgn a * mn q (fun x b => (fun a b => gramT K A w (σ a) (σ b)) ((fun z => if z = 0 then i0 else s' (z - 1)) (dk a x)) (t' b))) = co at z
  generalize hp : (fun a : Nat => if a = 0 then i0 else s' (a - 1)) = p at *
  have z : ∀ j, j < r → jsum (q + 1) (fun a => co a * gramT K A w (σ (p a)) (σ j)) = 0 := by
    intro j hj
    have := z j hj
    rw [← this]
    congr 1
    funext a
    rw [← hco, ← hp]
  have p0 : p 0 = i0 := by rw [← hp]; rfl
  have pa : ∀ a, a < q → p (a + 1) = s' a := fun a _ => by rw [← hp]; rfl
  have pr' : ∀ a, a < q + 1 → p a < r := fun a ha => by
    by_cases c : a = 0
    · rw [c, p0]; exact hi0
    · obtain ⟨b, rfl⟩ : ∃ b, a = b + 1 := ⟨a - 1, by omega⟩
      rw [pa b (by omega)]; exact hs' b (by omega)
  have c0 : co 0 ≠ 0 := by
    rw [← hco]
    dsimp only
    rw [show mn q (fun x b => gramT K A w (σ (p (dk 0 x))) (σ (t' b))) = mn q (fun a b => gramT K A w (σ (s' a)) (σ (t' b))) from mn_cg (fun x b hx _ => by
      rw [show dk 0 x = x + 1 from rfl, pa x hx])]
    rw [show sgn 0 = 1 from rfl, Int.one_mul]
    exact hm'
  have sq := ds_dbl (n := q + 1) (K := K) (co := co) (w := w) (A := A) (p := fun a => σ (p a))
  rw [ds_0 (fun b hb => by rw [z (p b) (pr' b hb), Int.mul_zero])] at sq
  have v0 := sq_0 hw sq.symm
  have e := mn_rowsum (n := r) (m := q + 1) (A := fun a b => A (σ a) (τ b)) (t := i0) (w := co) (u := fun a j => A (σ (p a)) (τ j)) hi0
  rw [mn_row0 hi0 (fun j hj => by unfold rwd; rw [if_pos rfl]; exact v0 (τ j) (ht j hj))] at e
  rw [ds_one (t := 0) (by omega) (fun a ha hn => by
    obtain ⟨b, rfl⟩ : ∃ b, a = b + 1 := ⟨a - 1, by omega⟩
    have hb : b < q := by omega
    rw [mn_eq2 hi0 (hs' b hb) (fun y => hout b hb y.symm) (fun j hj => by
      unfold rwd
      rw [if_pos rfl, if_neg (hout b hb), pa b hb]), Int.mul_zero])] at e
  rw [rwd_same (fun j hj => by rw [p0])] at e
  rcases Int.mul_eq_zero.mp e.symm with c | c
  · exact c0 c
  · exact hm c
