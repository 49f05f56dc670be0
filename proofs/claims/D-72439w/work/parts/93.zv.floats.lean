/-! PLAIN LAW, 93.zv: floats that are numbers (no program in sight) -/
theorem b32_t : FP.Core.b32.tails = 8388608 ∧ FP.Core.b32.exps = 256 ∧ FP.Core.b32.qmin = -149 ∧ FP.Core.b32.qmax = 104 ∧ FP.Core.b32.p = 24 := by decide
/-- numbers and infinities that a float holds -/
def okD (d : FP.Core.Datum) : Prop := (∃ s, d = .inf s) ∨ ∃ s c q, d = .fin s c q ∧ c < 16777216 ∧ (-149 : Int) ≤ q ∧ q ≤ 104
theorem fp_settle {s : Bool} {c : Nat} {q : Int} (hq : -149 ≤ q) : okD (FP.Core.settle FP.Core.b32 s c q) := by
  obtain ⟨e1, e2, e3, e4, e5⟩ := b32_t
  unfold FP.Core.settle FP.Core.bound
  rw [e1, e4, e5]
  split
  · rename_i h
    split
    · exact .inr ⟨_, _, _, rfl, h, hq, by assumption⟩
    · exact .inl ⟨_, rfl⟩
  · split
    · exact .inr ⟨_, _, _, rfl, by decide, by omega, by assumption⟩
    · exact .inl ⟨_, rfl⟩
theorem fp_rr {s : Bool} {a b : Nat} {e : Int} : okD (FP.Core.roundRatio FP.Core.b32 s a b e) := by
  obtain ⟨e1, e2, e3, e4, e5⟩ := b32_t
  unfold FP.Core.roundRatio FP.Core.roundAt
  split
  · exact .inr ⟨_, _, _, rfl, by decide, by rw [e3]; decide, by rw [e3]; decide⟩
  · refine fp_settle ?_
    unfold FP.Core.quantum
    rw [e3]
    omega
theorem fp_enc {d : FP.Core.Datum} (h : okD d) : FP.Core.encode FP.Core.b32 d < 4294967296 ∧ FP.Core.encode FP.Core.b32 d % 2147483648 ≤ 2139095040 := by
  obtain ⟨e1, e2, e3, e4, e5⟩ := b32_t
  rcases h with ⟨s, rfl⟩ | ⟨s, c, q, rfl, h1, h2, h3⟩
  · unfold FP.Core.encode FP.Core.assemble
    simp only [e1, e2]
    cases s <;> decide
  · unfold FP.Core.encode FP.Core.assemble
    simp only [e1, e2, e3]
    have hs : s.toNat ≤ 1 := by cases s <;> decide
    split
    · omega
    · generalize hE : (q - -149).toNat = E
      have : E ≤ 253 := by omega
      omega
theorem fp_toNat {d : FP.Core.Datum} (h : okD d) : (UInt32.ofNat (FP.Core.encode FP.Core.b32 d)).toNat = FP.Core.encode FP.Core.b32 d := by
  rw [UInt32.toNat_ofNat']
  exact Nat.mod_eq_of_lt (fp_enc h).1
theorem fp_bits {d : FP.Core.Datum} (h : okD d) : (UInt32.ofNat (FP.Core.encode FP.Core.b32 d)) &&& 0x7fffffff ≤ 0x7f800000 := by
  rw [UInt32.le_iff_toNat_le, UInt32.toNat_and, fp_toNat h]
  have e : (2147483647 : UInt32).toNat = 2 ^ 31 - 1 := by decide
  rw [e, Nat.and_two_pow_sub_one_eq_mod]
  exact (fp_enc h).2
theorem fp_dec {n : Nat} (h : n % 2147483648 ≤ 2139095040) : FP.Core.decode FP.Core.b32 n ≠ .nan := by
  obtain ⟨e1, e2, e3, e4, e5⟩ := b32_t
  unfold FP.Core.decode FP.Core.fieldE FP.Core.fieldT
  rw [e1, e2]
  split
  · rw [if_pos (by omega)]
    simp
  · split <;> simp
theorem fp_decF {s : Bool} {c : Nat} {q : Int} (h0 : c ≠ 0) (h1 : c < 16777216) (h2 : -149 ≤ q) (h3 : q ≤ 103) : ∃ s' c' q', FP.Core.decode FP.Core.b32 (FP.Core.encode FP.Core.b32 (.fin s c q)) = .fin s' c' q' ∧ c' ≠ 0 := by
  obtain ⟨e1, e2, e3, e4, e5⟩ := b32_t
  have hs : s.toNat ≤ 1 := by cases s <;> decide
  have key : ∀ n, (n / 8388608 % 256 ≠ 255 ∧ (n / 8388608 % 256 ≠ 0 ∨ n % 8388608 ≠ 0)) → ∃ s' c' q', FP.Core.decode FP.Core.b32 n = .fin s' c' q' ∧ c' ≠ 0 := by
    intro n hn
    unfold FP.Core.decode FP.Core.fieldE FP.Core.fieldT
    rw [e1, e2, if_neg (by omega)]
    split
    · exact ⟨_, _, _, rfl, by omega⟩
    · exact ⟨_, _, _, rfl, by omega⟩
  refine key _ ?_
  unfold FP.Core.encode FP.Core.assemble
  simp only [e1, e2, e3]
  split
  · omega
  · generalize hE : (q - -149).toNat = E
    have : E ≤ 252 := by omega
    omega
theorem fp_l2f {y : Int64} (h0 : y.toInt ≠ 0) (h1 : y.toInt.natAbs < 2 ^ 63) : ∃ s c q, FP.Core.decode FP.Core.b32 (FP.Core.l2f y).toNat = .fin s c q ∧ c ≠ 0 := by
  have main : ∃ s c q, FP.Core.round FP.Core.b32 (FP.Core.ofInt y.toInt) = .fin s c q ∧ c ≠ 0 ∧ c < 16777216 ∧ (-149 : Int) ≤ q ∧ q ≤ 103 := by
    obtain ⟨e1, e2, e3, e4, e5⟩ := b32_t
    unfold FP.Core.ofInt FP.Core.round FP.Core.roundRatio
    generalize hn : y.toInt.natAbs = n at *
    have n0 : n ≠ 0 := by omega
    simp only []
    rw [if_neg n0]
    have hl : FP.Core.leading n 1 = (n.log2 : Int) := by
      unfold FP.Core.leading
      have e1 : Nat.log2 1 = 0 := by decide
      simp only [e1]
      rw [if_pos]
      · simp
      · simp only [Int.natCast_zero, Int.sub_zero, Int.toNat_natCast, Nat.one_mul]
        have : (-(n.log2 : Int)).toNat = 0 := by omega
        rw [this, Nat.pow_zero, Nat.mul_one]
        exact Nat.log2_self_le n0
    have l62 : n.log2 ≤ 62 := by
      have := (Nat.log2_lt n0).mpr h1
      omega
    have hq : FP.Core.quantum FP.Core.b32 n 1 0 = (n.log2 : Int) - 23 := by
      unfold FP.Core.quantum
      rw [hl, e3, e5]
      omega
    rw [hq]
    unfold FP.Core.roundAt
    have hge : 1 ≤ FP.Core.nearest (FP.Core.unitsNum n 0 ((n.log2 : Int) - 23)) (FP.Core.unitsDen 1 0 ((n.log2 : Int) - 23)) := by
      have hu : FP.Core.unitsDen 1 0 ((n.log2 : Int) - 23) ≤ FP.Core.unitsNum n 0 ((n.log2 : Int) - 23) := by
        unfold FP.Core.unitsDen FP.Core.unitsNum
        rw [Nat.one_mul]
        have p1 : 2 ^ ((n.log2 : Int) - 23 - 0).toNat ≤ 2 ^ n.log2 := Nat.pow_le_pow_right (by decide) (by omega)
        have p2 := Nat.log2_self_le n0
        have p3 : 0 < 2 ^ (0 - ((n.log2 : Int) - 23)).toNat := Nat.pow_pos (by decide)
        exact Nat.le_trans (Nat.le_trans p1 p2) (Nat.le_mul_of_pos_right _ p3)
      have hd : 0 < FP.Core.unitsDen 1 0 ((n.log2 : Int) - 23) := by unfold FP.Core.unitsDen; rw [Nat.one_mul]; exact Nat.pow_pos (by decide)
      have := Nat.div_pos hu hd
      unfold FP.Core.nearest
      split
      · omega
      · split <;> omega
    generalize FP.Core.nearest (FP.Core.unitsNum n 0 ((n.log2 : Int) - 23)) (FP.Core.unitsDen 1 0 ((n.log2 : Int) - 23)) = k at *
    unfold FP.Core.settle FP.Core.bound
    rw [e1, e4, e5]
    split
    · rename_i hk
      rw [if_pos (by omega)]
      exact ⟨_, _, _, rfl, by omega, hk, by omega, by omega⟩
    · rw [if_pos (by omega)]
      exact ⟨_, _, _, rfl, by decide, by decide, by omega, by omega⟩
  obtain ⟨s, c, q, e, c0, c1, q1, q2⟩ := main
  have ok : okD (.fin s c q) := .inr ⟨s, c, q, rfl, c1, q1, by omega⟩
  have : (FP.Core.l2f y).toNat = FP.Core.encode FP.Core.b32 (.fin s c q) := by
    show (UInt32.ofNat (FP.Core.encode FP.Core.b32 (FP.Core.round FP.Core.b32 (FP.Core.ofInt y.toInt)))).toNat = _
    rw [e]
    exact fp_toNat ok
  rw [this]
  exact fp_decF c0 c1 q1 q2
theorem fp_num {x : Int64} : FP.Core.decode FP.Core.b32 (FP.Core.l2f x).toNat ≠ .nan := by
  have ok : okD (FP.Core.round FP.Core.b32 (FP.Core.ofInt x.toInt)) := by
    unfold FP.Core.ofInt FP.Core.round
    exact fp_rr
  have : (FP.Core.l2f x).toNat = FP.Core.encode FP.Core.b32 (FP.Core.round FP.Core.b32 (FP.Core.ofInt x.toInt)) := fp_toNat ok
  rw [this]
  exact fp_dec (fp_enc ok).2
theorem fp_share {x y : Int64} (h0 : y.toInt ≠ 0) (h1 : y.toInt.natAbs < 2 ^ 63) : (FP.fdiv (FP.l2f x) (FP.l2f y)) &&& 0x7fffffff ≤ 0x7f800000 ∧ (FP.fmul (FP.fdiv (FP.l2f x) (FP.l2f y)) (1148846080 : UInt32)) &&& 0x7fffffff ≤ 0x7f800000 := by
  obtain ⟨s, c, q, hy, c0⟩ := fp_l2f h0 h1
  have hd : okD (FP.Core.quotient FP.Core.b32 (FP.Core.decode FP.Core.b32 (FP.Core.l2f x).toNat) (FP.Core.decode FP.Core.b32 (FP.Core.l2f y).toNat)) := by
    rw [hy]
    have hx := @fp_num x
    cases hv : FP.Core.decode FP.Core.b32 (FP.Core.l2f x).toNat with
    | nan => exact absurd hv hx
    | inf t => exact .inl ⟨_, rfl⟩
    | fin t d r => unfold FP.Core.quotient; simp only []; rw [if_neg c0]; exact fp_rr
  refine ⟨fp_bits hd, fp_bits ?_⟩
  have e1 : (FP.Core.fdiv (FP.Core.l2f x) (FP.Core.l2f y)).toNat = FP.Core.encode FP.Core.b32 (FP.Core.quotient FP.Core.b32 (FP.Core.decode FP.Core.b32 (FP.Core.l2f x).toNat) (FP.Core.decode FP.Core.b32 (FP.Core.l2f y).toNat)) := fp_toNat hd
  show okD (FP.Core.round FP.Core.b32 (FP.Core.exactProduct (FP.Core.decode FP.Core.b32 (FP.Core.fdiv (FP.Core.l2f x) (FP.Core.l2f y)).toNat) (FP.Core.decode FP.Core.b32 (1148846080 : UInt32).toNat)))
  rw [e1]
  have hn := fp_dec (fp_enc hd).2
  have hk : ∃ s' c' q', FP.Core.decode FP.Core.b32 (1148846080 : UInt32).toNat = .fin s' c' q' ∧ c' ≠ 0 := ⟨false, 16384000, -14, by decide +kernel, by decide⟩
  obtain ⟨s', c', q', hk1, hk2⟩ := hk
  rw [hk1]
  generalize FP.Core.decode FP.Core.b32 (FP.Core.encode FP.Core.b32 (FP.Core.quotient FP.Core.b32 (FP.Core.decode FP.Core.b32 (FP.Core.l2f x).toNat) (FP.Core.decode FP.Core.b32 (FP.Core.l2f y).toNat))) = v at hn
  cases v with
  | nan => exact absurd rfl hn
  | inf t => unfold FP.Core.exactProduct; simp only []; rw [if_neg hk2]; exact .inl ⟨_, rfl⟩
  | fin t d r => unfold FP.Core.exactProduct FP.Core.round; exact fp_rr
