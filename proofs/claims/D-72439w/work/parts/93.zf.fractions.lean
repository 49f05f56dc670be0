/-! PLAIN LAW, 93.zf: fractions: lowest terms, sums; component and model -/
theorem gcd_nz {a b : Int} (hb : b ≠ 0) : (Int.gcd a b : Int) ≠ 0 := by
  have : 0 < Int.gcd a b := Int.gcd_pos_of_ne_zero_right a hb
  omega
theorem td_mul {g s x : Int} (hg : g ≠ 0) (hs : s = 1 ∨ s = -1) : (g * x).tdiv (g * s) = s * x := by
  rcases hs with rfl | rfl
  · rw [Int.mul_one, Int.mul_tdiv_cancel_left _ hg, Int.one_mul]
  · have : g * x = (g * -1) * (-1 * x) := by grind
    rw [this, Int.mul_tdiv_cancel_left _ (by omega)]
theorem fr_num {a b : Int} (hb : b ≠ 0) : a.tdiv ((Int.gcd a b : Int) * (if 0 ≤ b then 1 else -1)) = (Rat.divInt a b).num := by
  have hg := gcd_nz (a := a) hb
  obtain ⟨x, hx⟩ : (Int.gcd a b : Int) ∣ a := Int.gcd_dvd_left ..
  have hs : b.sign = (if 0 ≤ b then 1 else -1) := by
    split
    · exact Int.sign_eq_one_of_pos (by omega)
    · exact Int.sign_eq_neg_one_of_neg (by omega)
  rw [Rat.num_divInt, hs, Int.gcd_comm b a]
  conv => lhs; rw [hx, ← hx]
  generalize hG : (Int.gcd a b : Int) = G at *
  have e1 : a.tdiv (G * (if 0 ≤ b then 1 else -1)) = (if 0 ≤ b then 1 else -1) * x := by
    conv => lhs; rw [hx]
    exact td_mul hg (by split; exact .inl rfl; exact .inr rfl)
  rw [e1]
  have e2 : (if 0 ≤ b then (1 : Int) else -1) * a = G * ((if 0 ≤ b then 1 else -1) * x) := by
    rw [hx]; grind
  rw [e2, Int.mul_ediv_cancel_left _ hg]
theorem fr_den {a b : Int} (hb : b ≠ 0) : b.tdiv ((Int.gcd a b : Int) * (if 0 ≤ b then 1 else -1)) = ((Rat.divInt a b).den : Int) := by
  have hg := gcd_nz (a := a) hb
  obtain ⟨x, hx⟩ : (Int.gcd a b : Int) ∣ b := Int.gcd_dvd_right ..
  rw [Rat.den_divInt, if_neg hb, Int.gcd_comm b a]
  have e1 : b.tdiv ((Int.gcd a b : Int) * (if 0 ≤ b then 1 else -1)) = (if 0 ≤ b then 1 else -1) * x := by
    generalize hs : (if 0 ≤ b then (1 : Int) else -1) = s
    have hs' : s = 1 ∨ s = -1 := by rw [← hs]; split; exact .inl rfl; exact .inr rfl
    generalize (Int.gcd a b : Int) = G at *
    conv => lhs; rw [hx]
    exact td_mul hg hs'
  rw [e1, Int.natCast_ediv]
  have e2 : ((b.natAbs : Nat) : Int) = (Int.gcd a b : Int) * ((if 0 ≤ b then 1 else -1) * x) := by
    by_cases c : 0 ≤ b
    · rw [if_pos c, Int.natAbs_of_nonneg c, Int.one_mul, ← hx]
    · rw [if_neg c]
      have : ((b.natAbs : Nat) : Int) = - b := by omega
      rw [this]
      conv => lhs; rw [hx]
      grind
  rw [e2, Int.mul_ediv_cancel_left _ hg]
/-- r is z over Dl -/
def fZ (Dl : Int) (r : Rat) (z : Int) : Prop := r * (Dl : Rat) = (z : Rat)
theorem fZ_eq {Dl z : Int} {r : Rat} (h0 : 0 < Dl) (h : fZ Dl r z) : r.num * Dl = z * r.den := by
  have e : r = Rat.divInt z Dl := by
    rw [Rat.divInt_eq_div]
    have : (Dl : Rat) ≠ 0 := by
      intro y
      have : Dl = 0 := Rat.intCast_inj.mp y
      omega
    unfold fZ at h
    grind
  have h2 : Rat.divInt r.num r.den = Rat.divInt z Dl := by rw [Rat.num_divInt_den]; exact e
  exact (Rat.divInt_eq_divInt_iff (by have := r.den_nz; omega) (by omega)).mp h2
theorem fZ_den {Dl z : Int} {r : Rat} (h0 : 0 < Dl) (h : fZ Dl r z) : (r.den : Int) ∣ Dl := by
  have e := fZ_eq h0 h
  have h1 : (r.den : Int) ∣ r.num * Dl := ⟨z, by rw [e, Int.mul_comm]⟩
  have h2 : Nat.Coprime r.den r.num.natAbs := Nat.Coprime.symm r.reduced
  have h3 : r.den ∣ r.num.natAbs * Dl.natAbs := by
    have := Int.natAbs_dvd_natAbs.mpr h1
    rw [Int.natAbs_mul] at this
    exact this
  have h4 : r.den ∣ Dl.natAbs := h2.dvd_of_dvd_mul_left h3
  exact Int.natAbs_dvd_natAbs.mp h4
theorem fZ_z {Dl z : Int} {r : Rat} {m : Int} (h0 : 0 < Dl) (h : fZ Dl r z) (hm : Dl = r.den * m) : r.num * m = z := by
  have e := fZ_eq h0 h
  rw [hm] at e
  have hd : (r.den : Int) ≠ 0 := by have := r.den_nz; omega
  refine Int.eq_of_mul_eq_mul_left hd ?_
  grind
theorem fZ_rg {Dl z : Int} {r : Rat} (h0 : 0 < Dl) (h : fZ Dl r z) : r.num.natAbs ≤ z.natAbs ∧ (r.den : Int) ≤ Dl := by
  obtain ⟨m, hm⟩ := fZ_den h0 h
  have e := fZ_z h0 h hm
  have hd : 0 < r.den := Nat.pos_of_ne_zero r.den_nz
  have m0 : m ≠ 0 := by rintro rfl; omega
  refine ⟨?_, Int.le_of_dvd h0 ⟨m, hm⟩⟩
  rw [← e, Int.natAbs_mul]
  exact Nat.le_mul_of_pos_right _ (by omega)
theorem fZ_add {Dl z z' : Int} {r t : Rat} (h : fZ Dl r z) (h' : fZ Dl t z') : fZ Dl (r + t) (z + z') := by
  unfold fZ at *
  rw [Rat.add_mul, h, h', Rat.intCast_add]
theorem fZ_neg {Dl z : Int} {r : Rat} (h : fZ Dl r z) : fZ Dl (-r) (-z) := by
  unfold fZ at *
  rw [Rat.neg_mul, h, Rat.intCast_neg]
theorem fZ_int {Dl x : Int} : fZ Dl (x : Rat) (x * Dl) := by
  unfold fZ
  rw [Rat.intCast_mul]
theorem fZ_divInt {Dl a b m : Int} (hb : b ≠ 0) (hm : Dl = b * m) : fZ Dl (Rat.divInt a b) (a * m) := by
  unfold fZ
  rw [Rat.divInt_eq_div, hm, Rat.intCast_mul, Rat.intCast_mul]
  have : (b : Rat) ≠ 0 := fun y => hb (Rat.intCast_inj.mp y)
  grind
/-- how two are added -/
theorem fr_plus {Dl z z' : Int} {r t : Rat} (h0 : 0 < Dl) (h : fZ Dl r z) (h' : fZ Dl t z') : ∃ u v : Int, (r.den : Int) = (Int.gcd r.den t.den : Int) * u ∧ (t.den : Int) = (Int.gcd r.den t.den : Int) * v ∧ 0 < u ∧ 0 < v ∧ u * t.den ≠ 0 ∧ (r.num * v + t.num * u).natAbs ≤ z.natAbs + z'.natAbs ∧ (u * t.den).natAbs ≤ Dl.natAbs ∧ Rat.divInt (r.num * v + t.num * u) (u * t.den) = r + t := by
  have hr : (0 : Int) < r.den := by have := Nat.pos_of_ne_zero r.den_nz; omega
  have ht : (0 : Int) < t.den := by have := Nat.pos_of_ne_zero t.den_nz; omega
  have hg : (0 : Int) < Int.gcd r.den t.den := by
    have := Int.gcd_pos_of_ne_zero_left (t.den : Int) (show (r.den : Int) ≠ 0 by omega)
    omega
  obtain ⟨u, hu⟩ : (Int.gcd r.den t.den : Int) ∣ (r.den : Int) := Int.gcd_dvd_left ..
  obtain ⟨v, hv⟩ : (Int.gcd r.den t.den : Int) ∣ (t.den : Int) := Int.gcd_dvd_right ..
  have hL : ((Int.lcm r.den t.den : Nat) : Int) ∣ Dl := Int.coe_lcm_dvd (fZ_den h0 h) (fZ_den h0 h')
  generalize hG : (Int.gcd r.den t.den : Int) = G at *
  have u0 : 0 < u := by
    rcases Int.lt_trichotomy u 0 with c | c | c
    · have := Int.mul_neg_of_pos_of_neg hg c; omega
    · subst c; omega
    · exact c
  have v0 : 0 < v := by
    rcases Int.lt_trichotomy v 0 with c | c | c
    · have := Int.mul_neg_of_pos_of_neg hg c; omega
    · subst c; omega
    · exact c
  have hl : ((Int.lcm r.den t.den : Nat) : Int) = u * t.den := by
    have e := Int.gcd_mul_lcm (r.den : Int) (t.den : Int)
    have e2 : G * ((Int.lcm r.den t.den : Nat) : Int) = r.den * t.den := by
      rw [← hG, ← Int.natCast_mul, e, Int.natCast_mul]
      rw [Int.natAbs_natCast, Int.natAbs_natCast]
    refine Int.eq_of_mul_eq_mul_left (show G ≠ 0 by omega) ?_
    rw [e2, ← Int.mul_assoc, ← hu]
  rw [hl] at hL
  obtain ⟨w, hw⟩ := hL
  have w0 : w ≠ 0 := by rintro rfl; omega
  have b0 : 0 < u * t.den := Int.mul_pos u0 ht
  have z1 : r.num * (v * w) = z := fZ_z h0 h (by rw [hw, hu, hv]; grind)
  have z2 : t.num * (u * w) = z' := fZ_z h0 h' (by rw [hw]; grind)
  refine ⟨u, v, hu, hv, u0, v0, by omega, ?_, ?_, ?_⟩
  · have a1 : (r.num * v).natAbs ≤ z.natAbs := by
      rw [← z1, ← Int.mul_assoc, Int.natAbs_mul _ w]; exact Nat.le_mul_of_pos_right _ (by omega)
    have a2 : (t.num * u).natAbs ≤ z'.natAbs := by
      rw [← z2, ← Int.mul_assoc, Int.natAbs_mul _ w]; exact Nat.le_mul_of_pos_right _ (by omega)
    omega
  · rw [hw, Int.natAbs_mul _ w]; exact Nat.le_mul_of_pos_right _ (by omega)
  · have hrr : r = (r.num : Rat) / (r.den : Rat) := by
      have := Rat.num_divInt_den r
      rw [Rat.divInt_eq_div] at this
      exact this.symm
    have htt : t = (t.num : Rat) / (t.den : Rat) := by
      have := Rat.num_divInt_den t
      rw [Rat.divInt_eq_div] at this
      exact this.symm
    have c1 : ((r.den : Int) : Rat) = (G : Rat) * (u : Rat) := by rw [hu, Rat.intCast_mul]
    have c2 : ((t.den : Int) : Rat) = (G : Rat) * (v : Rat) := by rw [hv, Rat.intCast_mul]
    have g0 : (G : Rat) ≠ 0 := fun y => by have := Rat.intCast_inj (b := 0) |>.mp y; omega
    have u1 : (u : Rat) ≠ 0 := fun y => by have := Rat.intCast_inj (b := 0) |>.mp y; omega
    have v1 : (v : Rat) ≠ 0 := fun y => by have := Rat.intCast_inj (b := 0) |>.mp y; omega
    rw [Rat.divInt_eq_div, Rat.intCast_add, Rat.intCast_mul, Rat.intCast_mul, Rat.intCast_mul, c2]
    have d1 : (r.den : Rat) = ((r.den : Int) : Rat) := rfl
    have d2 : (t.den : Rat) = ((t.den : Int) : Rat) := rfl
    rw [d1, c1] at hrr
    rw [d2, c2] at htt
    generalize (r.num : Rat) = rn at *
    generalize (t.num : Rat) = tn at *
    rw [hrr, htt]
    grind

