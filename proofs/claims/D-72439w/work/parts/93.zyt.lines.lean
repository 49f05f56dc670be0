/-! SIZES, 93.zyt: lines: pairs of columns, of rows (no program in sight) -/
theorem stg_inv {n : Nat} {A F : Nat → Nat → Int} (h : stg n A F) : F = A ∨ ∃ G b k, stg n A G ∧ lstAt n G b k ∧ ¬ okAt n G b k ∧ F = clrAt G b k := by
  have := h (fun F => stg n A F ∧ (F = A ∨ ∃ G b k, stg n A G ∧ lstAt n G b k ∧ ¬ okAt n G b k ∧ F = clrAt G b k)) ⟨stg_0, .inl rfl⟩ (fun F b k hF hl hn => ⟨stg_s hF.1 hl hn, .inr ⟨F, b, k, hF.1, hl, hn, rfl⟩⟩)
  exact this.2
theorem clrAt_tr {F : Nat → Nat → Int} {b k x y : Nat} : clrAt (fun i j => F j i) k b y x = clrAt F b k x y := by
  unfold clrAt
  by_cases cx : x = b
  · by_cases cy : y = k
    · rw [if_pos cy, if_pos cx, if_pos cx, if_pos cy]
    · rw [if_neg cy, if_pos cx, if_pos cx, if_neg cy]
  · by_cases cy : y = k
    · rw [if_pos cy, if_neg cx, if_neg cx, if_pos cy]
    · rw [if_neg cy, if_neg cx, if_neg cx, if_neg cy]
      have h1 := Int.tmod_def (F x k) (F b k)
      have h2 := Int.tmod_def (F b y) (F b k)
      rw [h1, h2]
      grind
/-- the minors of two columns -/
def colN (n : Nat) (F : Nat → Nat → Int) (x y N : Nat) : Prop := ∀ l m, l < n → m < n → (F l x * F m y - F l y * F m x).natAbs ≤ N
theorem colN_sy {n x y N : Nat} {F : Nat → Nat → Int} (h : colN n F x y N) : colN n F y x N := fun l m hl hm => by
  have := h m l hm hl
  rw [show F l y * F m x - F l x * F m y = F m x * F l y - F m y * F l x by grind]
  exact this
/-- two terms, lessened -/
theorem two_le {p f g r s Y Z W W' : Int} {N : Nat} (hp : p ≠ 0) (hr : r = f.tmod p) (hs : s = g.tmod p) (e : p * W = f * Y - g * Z) (e' : p * W' = r * Y - s * Z) (hY : Y.natAbs ≤ N) (hZ : Z.natAbs ≤ N) (hW : W.natAbs ≤ N) : W'.natAbs ≤ N := by
  have p0 : 0 < p.natAbs := Int.natAbs_pos.mpr hp
  have lt : ∀ x : Int, (x.tmod p).natAbs ≤ p.natAbs := fun x => by
    rw [Int.natAbs_tmod]
    exact Nat.le_of_lt (Nat.mod_lt _ p0)
  have c := co_sum (n := 2) (T := fun t => if t = 0 then f * Y else g * (-Z)) (T' := fun t => if t = 0 then r * Y else s * (-Z)) (c := p.natAbs * N) (fun t _ => by
    by_cases c : t = 0
    · rw [if_pos c, if_pos c, hr]
      exact mul_sg (tm_sg (x := f) (p := p))
    · rw [if_neg c, if_neg c, hs]
      exact mul_sg (tm_sg (x := g) (p := p))) (fun t _ => by
    by_cases c : t = 0
    · rw [if_pos c, hr, Int.natAbs_mul]
      exact Nat.mul_le_mul (lt f) hY
    · rw [if_neg c, hs, Int.natAbs_mul, Int.natAbs_neg]
      exact Nat.mul_le_mul (lt g) hZ)
  have e1 : jsum 2 (fun t => if t = 0 then f * Y else g * (-Z)) = p * W := by
    show 0 + (if 0 = 0 then f * Y else g * (-Z)) + (if 1 = 0 then f * Y else g * (-Z)) = _
    rw [if_pos rfl, if_neg (by decide), e]
    grind
  have e2 : jsum 2 (fun t => if t = 0 then r * Y else s * (-Z)) = p * W' := by
    show 0 + (if 0 = 0 then r * Y else s * (-Z)) + (if 1 = 0 then r * Y else s * (-Z)) = _
    rw [if_pos rfl, if_neg (by decide), e']
    grind
  rw [e1, e2, Int.natAbs_mul, Int.natAbs_mul] at c
  refine Nat.le_of_mul_le_mul_left ?_ p0
  rcases c with c | c
  · exact Nat.le_trans c (Nat.mul_le_mul_left _ hW)
  · omega
/-- while the pivot stands in one of the two columns their minors do not grow -/
theorem colN_clr {n b k y N : Nat} {F : Nat → Nat → Int} (hb : b < n) (hp : F b k ≠ 0) (hy : y ≠ k) (h : colN n F k y N) : colN n (clrAt F b k) k y N := by
  intro l m hl hm
  have val : ∀ x, clrAt F b k x k = if x = b then F b k else (F x k).tmod (F b k) := fun x => by
    unfold clrAt
    by_cases c : x = b
    · rw [if_pos c, if_pos rfl, if_pos c]
    · rw [if_neg c, if_pos rfl, if_neg c]
  -- column y less a multiple of column k
  have val2 : ∃ q : Int, ∀ x, clrAt F b k x y = (if x = b then F b y else F x y - (F x k).tdiv (F b k) * F b y) - q * clrAt F b k x k := by
    refine ⟨(F b y).tdiv (F b k), fun x => ?_⟩
    rw [val]
    unfold clrAt
    by_cases c : x = b
    · rw [if_pos c, if_neg hy, if_pos c, if_pos c, tm_eq]
    · rw [if_neg c, if_neg hy, if_neg c, if_neg c]
  obtain ⟨q, hq⟩ := val2
  rw [hq l, hq m, val l, val m]
  have td : ∀ x, F x k = (F x k).tdiv (F b k) * F b k + (F x k).tmod (F b k) := fun x => by
    have := tm_eq (x := F x k) (p := F b k)
    omega
  by_cases cl : l = b
  · by_cases cm : m = b
    · rw [if_pos cl, if_pos cl, if_pos cm, if_pos cm, show F b k * (F b y - q * F b k) - (F b y - q * F b k) * F b k = 0 by grind]
      exact Nat.zero_le _
    · have t := td m
      have := h b m hb hm
      rw [if_pos cl, if_pos cl, if_neg cm, if_neg cm]
      rw [show F b k * (F m y - (F m k).tdiv (F b k) * F b y - q * (F m k).tmod (F b k)) - (F b y - q * F b k) * (F m k).tmod (F b k) = F b k * F m y - F b y * F m k by grind]
      exact this
  · by_cases cm : m = b
    · have t := td l
      have := h l b hl hb
      rw [if_neg cl, if_neg cl, if_pos cm, if_pos cm]
      rw [show (F l k).tmod (F b k) * (F b y - q * F b k) - (F l y - (F l k).tdiv (F b k) * F b y - q * (F l k).tmod (F b k)) * F b k = F l k * F b y - F l y * F b k by grind]
      exact this
    · have tl := td l
      have tm := td m
      rw [if_neg cl, if_neg cl, if_neg cm, if_neg cm]
      refine two_le (p := F b k) (f := F l k) (g := F m k) (Y := F b k * F m y - F b y * F m k) (Z := F b k * F l y - F b y * F l k) (W := F l k * F m y - F l y * F m k) hp rfl rfl (by grind) ?_ (h b m hb hm) (h b l hb hl) (h l m hl hm)
      generalize (F l k).tmod (F b k) = r at *
      generalize (F m k).tmod (F b k) = s at *
      generalize (F l k).tdiv (F b k) = u at *
      generalize (F m k).tdiv (F b k) = v at *
      rw [tl, tm]
      grind
