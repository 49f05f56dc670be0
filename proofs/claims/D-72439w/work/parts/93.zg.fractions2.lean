/-! PLAIN LAW, 93.zg: objects of fractions; the model's tells -/
/-- the object of a fraction -/
def jFr (r : Rat) : CE := .inr (12, [.long (jI r.num), .long (jI r.den)])
/-- another long array in the model's state -/
def sJ (S : MS) (k : Nat) (f : Nat → Int64) : MS := (S.1, va_up S.2.1 k f, S.2.2)
section FR
variable {β : Type} {Q : β → Mem → Prop} {md : Nat → Bool} {N c s q m : Nat} {M0 M : Mem} {ad : Nat → Nat} {S : MS}
theorem gcd_rg {a b : Int} (hb : b.natAbs < 9223372036854775808) (b0 : b ≠ 0) : 0 < Int.gcd a b ∧ Int.gcd a b < 9223372036854775808 := by
  have h1 := Int.gcd_pos_of_ne_zero_right a b0
  have h2 : Int.gcd a b ≤ b.natAbs := Nat.le_of_dvd (by omega) (Nat.gcd_dvd_right a.natAbs b.natAbs)
  omega
theorem jI_0le {b : Int} (hb : b.natAbs < 9223372036854775808) : (0 : Int64) ≤ jI b ↔ 0 ≤ b := by
  show jI 0 ≤ jI b ↔ _
  rw [Int64.le_iff_toInt_le, jI_toInt (by omega) (by omega), jI_toInt (by omega) (by omega)]
theorem fr_sg {a b : Int} {s : Int} (ha : a.natAbs < 9223372036854775808) (hb : b.natAbs < 9223372036854775808) (b0 : b ≠ 0) (hs : s = if 0 ≤ b then 1 else -1) : ¬ jI ((Int.gcd a b : Int) * s) = 0 ∧ jI a / jI ((Int.gcd a b : Int) * s) = jI (Rat.divInt a b).num ∧ jI b / jI ((Int.gcd a b : Int) * s) = jI (Rat.divInt a b).den := by
  obtain ⟨g0, g1⟩ := gcd_rg (a := a) hb b0
  have hr : -9223372036854775808 ≤ (Int.gcd a b : Int) * s ∧ (Int.gcd a b : Int) * s < 9223372036854775808 := by
    rw [hs]; split <;> omega
  have hn : (Int.gcd a b : Int) * s ≠ 0 := by rw [hs]; split <;> omega
  refine ⟨fun y => hn ((jI_0 hr).mp y), ?_, ?_⟩
  · rw [jI_tdv (by omega) hr, hs, fr_num b0]
  · rw [jI_tdv (by omega) hr, hs, fr_den b0]
theorem jX_in12 {a b : Int} {x0 x1 : Value} {k : Unit → jm_P β} (h : jMk md M.2.2 q = some (.inr (12, [x0, x1]))) (ha : a.natAbs < 9223372036854775808) (hb : b.natAbs < 9223372036854775808) (b0 : b ≠ 0) (hN : 9223372036854775808 < N) (hE : jExt md c s M0 M) (kk : ∀ M1, jMk md M1.2.2 = va_up (jMk md M.2.2) q (some (jFr (Rat.divInt a b))) → jExt md c s M0 M1 → jo (k ()) M1 Q) : jo (jm_bd (jf_X12_init N q (jI a) (jI b)) k) M Q := by
  refine jo_bd ?_
  unfold jf_X12_init
  refine jo_eq (jx_common ha hb hN) ?_
  have fin : ∀ s' : Int, s' = (if 0 ≤ b then 1 else -1) → jo (jf_X12_init_j22 N q (jI a) (jI b) (jI (Int.gcd a b : Int)) (jI s')) M (fun x M' => jo (k x) M' Q) := by
    intro s' hs
    obtain ⟨e1, e2, e3⟩ := fr_sg ha hb b0 hs
    unfold jf_X12_init_j22
    rw [jI_mul]
    refine jo_ck e1 (jX_put h (by decide) (show 0 < 2 by decide) hE (fun M1 d1 E1 => jo_ck e1 (jX_put (vs := [.long (jI a / jI ((Int.gcd a b : Int) * s')), x1]) (by rw [d1, va_up_self]; rfl) (by decide) (show 1 < 2 by decide) E1 (fun M2 d2 E2 => jo_ret (kk M2 ?_ E2)))))
    rw [d2, d1, va_up2, e2, e3]
    rfl
  by_cases c : 0 ≤ b
  · exact jo_t ((jI_0le hb).mpr c) (fin 1 (by rw [if_pos c]))
  · exact jo_f (fun y => c ((jI_0le hb).mp y)) (by rw [show (-1 : Int64) = jI (-1) by decide]; exact fin (-1) (by rw [if_neg c]))
theorem jm_tells {a b : Int} {e : Nat} (h : jMM m ad M0 S M) (he : e < 6) (ha : a.natAbs < 9223372036854775808) (hb : b.natAbs < 9223372036854775808) (b0 : b ≠ 0) (hN : 9223372036854775808 < N) : jo (jf_X1_tells N m (nI e) (jI a) (jI b)) M (fun _ M' => jMM m ad M0 (sJ (sJ S 18 (vp_updL (S.2.1 18) e (jI (Rat.divInt a b).num))) 19 (vp_updL (S.2.1 19) e (jI (Rat.divInt a b).den))) M') := by
  unfold jf_X1_tells
  refine jo_eq (jr_gcd ha hb hN) ?_
  have fin : ∀ s' : Int, s' = (if 0 ≤ b then 1 else -1) → jo (jf_X1_tells_j23 N m (nI e) (jI a) (jI b) (jI ((Int.gcd a b : Int) * s'))) M (fun _ M' => jMM m ad M0 (sJ (sJ S 18 (vp_updL (S.2.1 18) e (jI (Rat.divInt a b).num))) 19 (vp_updL (S.2.1 19) e (jI (Rat.divInt a b).den))) M') := by
    intro s' hs
    obtain ⟨e1, e2, e3⟩ := fr_sg ha hb b0 hs
    unfold jf_X1_tells_j23
    refine jo_rd (jM_fR h (k := 18) rfl) (jo_ck e1 (jM_stJ h (k := 18) (by unfold jM_ja; omega) (jm_ixn he (by decide)) (fun M1 h1 => jo_rd (jM_fR h1 (k := 19) rfl) (jo_ck e1 (jM_stJ h1 (k := 19) (by unfold jM_ja; omega) (jm_ixn he (by decide)) (fun M2 h2 => jo_ret ?_))))))
    rw [e2, e3] at h2
    exact h2
  by_cases c : 0 ≤ b
  · have := fin 1 (by rw [if_pos c])
    rw [Int.mul_one] at this
    exact jo_t ((jI_0le hb).mpr c) this
  · have := fin (-1) (by rw [if_neg c])
    refine jo_f (fun y => c ((jI_0le hb).mp y)) ?_
    rw [jI_neg, show -((Int.gcd a b : Nat) : Int) = ((Int.gcd a b : Nat) : Int) * -1 by omega]
    exact this
theorem jx_plus {Dl z z' : Int} {r t : Rat} {a a' : Nat} (hM : ∀ a, md a = true → a < M0.1) (hE : jExt md c s M0 M) (h0 : 0 < Dl) (hr : fZ Dl r z) (ht : fZ Dl t z') (hz : z.natAbs + z'.natAbs < 9223372036854775808) (hD : Dl < 9223372036854775808) (hN : 9223372036854775808 < N) (ha : jMk md M.2.2 a = some (jFr r)) (ha' : jMk md M.2.2 a' = some (jFr t)) : jo (jf_X12_plus N a (some a')) M (jNew md (c + 1) (s + 2) M0 M (fun q H => H q = some (jFr (r + t)))) := by
  obtain ⟨u, v, hu, hv, u0, v0, b0, b1, b2, b3⟩ := fr_plus h0 hr ht
  have r1 := fZ_rg h0 hr
  have r2 := fZ_rg h0 ht
  have d1 : (0 : Int) < r.den := by have := Nat.pos_of_ne_zero r.den_nz; omega
  have d2 : (0 : Int) < t.den := by have := Nat.pos_of_ne_zero t.den_nz; omega
  obtain ⟨g0, g1⟩ := gcd_rg (a := (r.den : Int)) (b := (t.den : Int)) (by omega) (by omega)
  have gz : ¬ jI ((Int.gcd (r.den : Int) (t.den : Int) : Nat) : Int) = 0 := fun y => by
    have := (jI_0 (by omega)).mp y
    omega
  have q1 : jI (t.den : Int) / jI ((Int.gcd (r.den : Int) (t.den : Int) : Nat) : Int) = jI v := by
    rw [jI_tdv (by omega) (by omega)]
    congr 1
    conv => lhs; arg 1; rw [hv]
    exact Int.mul_tdiv_cancel_left _ (by omega)
  have q2 : jI (r.den : Int) / jI ((Int.gcd (r.den : Int) (t.den : Int) : Nat) : Int) = jI u := by
    rw [jI_tdv (by omega) (by omega)]
    congr 1
    conv => lhs; arg 1; rw [hu]
    exact Int.mul_tdiv_cancel_left _ (by omega)
  unfold jf_X12_plus
  refine jo_fJ (mkg ha).2 (by decide) rfl (jo_fJ (mkg ha').2 (by decide) rfl (jo_eq (jx_common (a := (r.den : Int)) (b := (t.den : Int)) (by omega) (by omega) hN) ?_))
  refine jX_al (hE.md hM) hE fun n M1 hn _ e1 E1 => ?_
  have s1 : jSub (jMk md M.2.2) (jMk md M1.2.2) := by rw [e1]; exact jSub.new hn
  have A := (mkg (s1 _ _ ha)).2
  have B := (mkg (s1 _ _ ha')).2
  refine jo_fJ A (by decide) rfl (jo_fJ B (by decide) rfl (jo_ck gz (jo_fJ B (by decide) rfl (jo_fJ A (by decide) rfl (jo_ck gz (jo_fJ A (by decide) rfl (jo_ck gz (jo_fJ B (by decide) rfl ?_))))))))
  rw [q1, q2, jI_mul, jI_mul, jI_mul, jI_add]
  refine jX_in12 (by rw [e1, va_up_self]) (by omega) (by omega) b0 hN E1 (fun M2 e2 E2 => jo_ret ⟨n, rfl, ?_, E2, ?_⟩)
  · rw [e2, e1, va_up2]; exact jSub.new hn
  · show jMk md M2.2.2 n = _
    rw [e2, va_up_self, b3]
theorem jx_minus {Dl z z' : Int} {r t : Rat} {a a' : Nat} (hM : ∀ a, md a = true → a < M0.1) (hE : jExt md c s M0 M) (h0 : 0 < Dl) (hr : fZ Dl r z) (ht : fZ Dl t z') (hz : z.natAbs + z'.natAbs < 9223372036854775808) (hD : Dl < 9223372036854775808) (hN : 9223372036854775808 < N) (ha : jMk md M.2.2 a = some (jFr r)) (ha' : jMk md M.2.2 a' = some (jFr t)) : jo (jf_X12_minus N a (some a')) M (jNew md (c + 2) (s + 4) M0 M (fun q H => H q = some (jFr (r - t)))) := by
  have r2 := fZ_rg h0 ht
  have d2 : (0 : Int) < t.den := by have := Nat.pos_of_ne_zero t.den_nz; omega
  unfold jf_X12_minus
  refine jX_al (hE.md hM) hE fun n M1 hn _ e1 E1 => ?_
  have s1 : jSub (jMk md M.2.2) (jMk md M1.2.2) := by rw [e1]; exact jSub.new hn
  have B := (mkg (s1 _ _ ha')).2
  refine jo_fJ B (by decide) rfl (jo_fJ B (by decide) rfl ?_)
  rw [jI_neg]
  refine jX_in12 (by rw [e1, va_up_self]) (by omega) (by omega) (by omega) hN E1 (fun M2 e2 E2 => ?_)
  have s2 : jSub (jMk md M.2.2) (jMk md M2.2.2) := by rw [e2, e1, va_up2]; exact jSub.new hn
  have hq : Rat.divInt (-t.num) t.den = -t := by
    rw [← Rat.neg_divInt, Rat.num_divInt_den]
  rw [hq] at e2
  have C : jMk md M2.2.2 n = some (jFr (-t)) := by rw [e2, va_up_self]
  refine jo_cl (mkg (s2 _ _ ha)).2 (jo_bd (jo_mono (jx_plus hM E2 h0 hr (fZ_neg ht) (by omega) hD hN (s2 _ _ ha) C) ?_))
  rintro x M3 ⟨q, rfl, s3, E3, h3⟩
  exact jo_ret ⟨q, rfl, s2.tr s3, E3, by rw [Rat.sub_eq_add_neg]; exact h3⟩
end FR
