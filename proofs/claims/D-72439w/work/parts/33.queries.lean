/-! PLAIN LAW, 33: the complex as data; what the model reads of it -/
/-- points, edges, faces, an edge's from, to, weight, a face's weight, its letters: how many, which (edge and 1, below 0 backward), chains -/
abbrev CX : Type := Nat × Nat × Nat × (Nat → Nat → Nat) × (Nat → Nat) × (Nat → Nat) × (Nat → Nat → Int) × (Nat → Nat → Int)
def cP (C : CX) : Nat := C.1
def cE (C : CX) : Nat := C.2.1
def cF (C : CX) : Nat := C.2.2.1
def cEd (C : CX) : Nat → Nat → Nat := C.2.2.2.1
def cFw (C : CX) : Nat → Nat := C.2.2.2.2.1
def cFl (C : CX) : Nat → Nat := C.2.2.2.2.2.1
def cLt (C : CX) : Nat → Nat → Int := C.2.2.2.2.2.2.1
def cCh (C : CX) : Nat → Nat → Int := C.2.2.2.2.2.2.2
def jWf (C : CX) : Prop := cP C ≤ 5 ∧ cE C ≤ 6 ∧ cF C ≤ 4 ∧ (∀ e, e < cE C → cEd C e 0 < cP C ∧ cEd C e 1 < cP C ∧ 1 ≤ cEd C e 2 ∧ cEd C e 2 ≤ 3) ∧ (∀ f, f < cF C → 1 ≤ cFw C f ∧ cFw C f ≤ 3 ∧ 1 ≤ cFl C f ∧ cFl C f ≤ 4 ∧ ∀ k, k < cFl C f → cLt C f k ≠ 0 ∧ -(cE C : Int) ≤ cLt C f k ∧ cLt C f k ≤ (cE C : Int)) ∧ (∀ c e, c < 3 → e < cE C → -9 ≤ cCh C c e ∧ cCh C c e ≤ 9)
def jEnc (C : CX) (b : Nat → Int32) : Prop := b 0 = nI (cP C) ∧ b 1 = nI (cE C) ∧ b 2 = nI (cF C) ∧ (∀ e w, e < cE C → w < 3 → b (3 + 3 * e + w) = nI (cEd C e w)) ∧ (∀ f, f < cF C → b (21 + 6 * f) = nI (cFw C f) ∧ b (22 + 6 * f) = nI (cFl C f) ∧ ∀ k, k < cFl C f → b (23 + 6 * f + k) = iI (cLt C f k)) ∧ (∀ c e, c < 3 → e < cE C → b (45 + 6 * c + e) = iI (cCh C c e))
def jsum : Nat → (Nat → Int) → Int
  | 0, _ => 0
  | n + 1, f => jsum n f + f n
theorem jsum_le {n : Nat} {f : Nat → Int} {a : Int} (h : ∀ k, k < n → - a ≤ f k ∧ f k ≤ a) : - (n * a) ≤ jsum n f ∧ jsum n f ≤ n * a := by
  induction n with
  | zero => simp [jsum]
  | succ n ih =>
    have h1 := ih (fun k hk => h k (Nat.lt_succ_of_lt hk))
    have h2 := h n (Nat.lt_succ_self n)
    have e : ((n + 1 : Nat) : Int) * a = n * a + a := by rw [Int.natCast_succ, Int.add_mul, Int.one_mul]
    rw [e]
    show -(↑n * a + a) ≤ jsum n f + f n ∧ jsum n f + f n ≤ ↑n * a + a
    omega
theorem jsum_cg {n : Nat} {f g : Nat → Int} (h : ∀ k, k < n → f k = g k) : jsum n f = jsum n g := by
  induction n with
  | zero => rfl
  | succ n ih => show jsum n f + f n = jsum n g + g n; rw [ih (fun k hk => h k (Nat.lt_succ_of_lt hk)), h n (Nat.lt_succ_self n)]
/-- a letter's sign at an edge -/
def lSg (L : Int) (e : Nat) : Int := if L = (e : Int) + 1 then 1 else if L = - ((e : Int) + 1) then -1 else 0
def cTwo (C : CX) (e f : Nat) : Int := jsum (cFl C f) (fun k => lSg (cLt C f k) e)
def cOne (C : CX) (p e : Nat) : Int := (if cEd C e 1 = p then 1 else 0) - (if cEd C e 0 = p then 1 else 0)
/-- the tables: of dimension 1 points by edges, else edges by faces -/
def cRows (C : CX) (d : Nat) : Nat := if d = 1 then cP C else cE C
def cCols (C : CX) (d : Nat) : Nat := if d = 1 then cE C else cF C
def cTab (C : CX) (d i j : Nat) : Int := if d = 1 then cOne C i j else cTwo C i j
def cWt (C : CX) (d k : Nat) : Nat := if d = 1 then cEd C k 2 else cFw C k
def cNear (C : CX) (w i j : Nat) : Int := if w = 1 then jsum (cP C) (fun p => cOne C p i * cOne C p j) else
  let d := if w = 0 then 1 else 2
  jsum (cCols C d) (fun k => cTab C d i k * cWt C d k * cTab C d j k)
theorem lSg_le (L : Int) (e : Nat) : -1 ≤ lSg L e ∧ lSg L e ≤ 1 := by
  unfold lSg
  split
  · omega
  · split <;> omega
theorem cTwo_le {C : CX} (hW : jWf C) {e f : Nat} (hf : f < cF C) : -4 ≤ cTwo C e f ∧ cTwo C e f ≤ 4 := by
  have h1 := (hW.2.2.2.2.1 f hf).2.2.2.1
  have := jsum_le (n := cFl C f) (f := fun k => lSg (cLt C f k) e) (a := 1) (fun k _ => lSg_le _ _)
  unfold cTwo
  omega
theorem cOne_le {C : CX} {p e : Nat} : -1 ≤ cOne C p e ∧ cOne C p e ≤ 1 := by
  unfold cOne
  split <;> split <;> omega
section RD
variable {N m a n : Nat} {ad : Nat → Nat} {M0 M : Mem} {S : MS} {C : CX} {b : Nat → Int32}
theorem jr_ld (h : M.2.2 a = some (.inl (0, n, .inl b))) {i : Int32} {j : Nat} (e : i = nI j) (hj : j < n) (hn : n < 2 ^ 31) : jm_ldI 0 (some a) i M = some (b j) := by
  subst e
  exact ji_ld h (jm_ixn hj hn)
theorem jr_edgeAt (h : M.2.2 a = some (.inl (0, n, .inl b))) (hn : n < 2 ^ 31) {e w : Nat} (hj : 3 + 3 * e + w < n) : (jf_X1_edgeAt N (some a) (nI e) (nI w)).1 M = some (b (3 + 3 * e + w), M) := by
  refine jo_out ?_
  unfold jf_X1_edgeAt
  exact jo_rd (jr_ld h (by rw [nI_lit, nI_mul, nI_add, nI_add]) hj hn) (jo_ret ⟨rfl, rfl⟩)
theorem jr_letter (h : M.2.2 a = some (.inl (0, n, .inl b))) (hn : n < 2 ^ 31) {f k : Nat} (hj : 23 + 6 * f + k < n) : (jf_X1_letter N (some a) (nI f) (nI k)).1 M = some (b (23 + 6 * f + k), M) := by
  refine jo_out ?_
  unfold jf_X1_letter
  exact jo_rd (jr_ld h (by simp only [nI_lit, nI_mul, nI_add]; congr 1; omega) hj hn) (jo_ret ⟨rfl, rfl⟩)
theorem jr_many (h : M.2.2 a = some (.inl (0, n, .inl b))) (hn : n < 2 ^ 31) {f : Nat} (hj : 22 + 6 * f < n) : (jf_X1_many N (some a) (nI f)).1 M = some (b (22 + 6 * f), M) := by
  refine jo_out ?_
  unfold jf_X1_many
  exact jo_rd (jr_ld h (by simp only [nI_lit, nI_mul, nI_add]; congr 1; omega) hj hn) (jo_ret ⟨rfl, rfl⟩)
theorem jr_weight (h : M.2.2 a = some (.inl (0, n, .inl b))) (hn : n < 2 ^ 31) {d c : Nat} (hd : d = 1 ∨ d = 2) (hj : (if d = 1 then 5 + 3 * c else 21 + 6 * c) < n) : (jf_X1_weight N (some a) (nI d) (nI c)).1 M = some (b (if d = 1 then 5 + 3 * c else 21 + 6 * c), M) := by
  refine jo_out ?_
  unfold jf_X1_weight
  rcases hd with rfl | rfl
  · rw [if_pos (by rfl)]
    rw [if_pos rfl] at hj ⊢
    exact jo_rd (jr_ld h (by simp only [nI_lit, nI_mul, nI_add]; congr 1; omega) hj hn) (jo_ret ⟨rfl, rfl⟩)
  · rw [if_neg (by decide +kernel)]
    rw [if_neg (by decide)] at hj ⊢
    exact jo_rd (jr_ld h (by simp only [nI_lit, nI_mul, nI_add]) hj hn) (jo_ret ⟨rfl, rfl⟩)
/-- the edge of a letter -/
def lEd (L : Int) : Nat := (if L < 0 then - L - 1 else L - 1).toNat
theorem jr_edgeOf {L : Int} (h1 : -1000 ≤ L) (h2 : L ≤ 1000) (h0 : L ≠ 0) : (jf_X1_edgeOf N (iI L)).1 M = some (nI (lEd L), M) := by
  refine jo_out ?_
  unfold jf_X1_edgeOf
  have e0 : (0 : Int32) = iI 0 := rfl
  have e1 : (1 : Int32) = iI 1 := rfl
  by_cases c : 0 ≤ L
  · rw [if_pos (by rw [e0, iI_leI (by omega) (by omega)]; exact c)]
    refine jo_ret ⟨?_, rfl⟩
    rw [e1, iI_sub, nI_iI]
    unfold lEd
    rw [if_neg (by omega)]
    congr 1
    omega
  · rw [if_neg (by rw [e0, iI_leI (by omega) (by omega)]; exact c)]
    refine jo_ret ⟨?_, rfl⟩
    rw [e1, iI_neg, iI_sub, nI_iI]
    unfold lEd
    rw [if_pos (by omega)]
    congr 1
    omega
/-- where a letter begins, ends: a place of the row -/
def lBg (L : Int) : Nat := 3 + 3 * lEd L + (if L < 0 then 1 else 0)
def lFn (L : Int) : Nat := 3 + 3 * lEd L + (if L < 0 then 0 else 1)
theorem jr_beginOf (h : M.2.2 a = some (.inl (0, n, .inl b))) (hn : n < 2 ^ 31) {L : Int} (h1 : -1000 ≤ L) (h2 : L ≤ 1000) (h0 : L ≠ 0) (hj : lBg L < n) : (jf_X1_beginOf N (some a) (iI L)).1 M = some (b (lBg L), M) := by
  refine jo_out ?_
  unfold jf_X1_beginOf jf_X1_beginOf_j14
  refine jo_eq (jr_edgeOf h1 h2 h0) ?_
  have e0 : (0 : Int32) = iI 0 := rfl
  unfold lBg at hj ⊢
  by_cases c : L < 0
  · rw [if_neg (by rw [e0, iI_leI (by omega) (by omega)]; omega)]
    rw [if_pos c] at hj ⊢
    exact jo_eq (jr_edgeAt (w := 1) h hn hj) (jo_ret ⟨rfl, rfl⟩)
  · rw [if_pos (by rw [e0, iI_leI (by omega) (by omega)]; omega)]
    rw [if_neg c] at hj ⊢
    exact jo_eq (jr_edgeAt (w := 0) h hn hj) (jo_ret ⟨rfl, rfl⟩)
theorem jr_endOf (h : M.2.2 a = some (.inl (0, n, .inl b))) (hn : n < 2 ^ 31) {L : Int} (h1 : -1000 ≤ L) (h2 : L ≤ 1000) (h0 : L ≠ 0) (hj : lFn L < n) : (jf_X1_endOf N (some a) (iI L)).1 M = some (b (lFn L), M) := by
  refine jo_out ?_
  unfold jf_X1_endOf jf_X1_endOf_j14
  refine jo_eq (jr_edgeOf h1 h2 h0) ?_
  have e0 : (0 : Int32) = iI 0 := rfl
  unfold lFn at hj ⊢
  by_cases c : L < 0
  · rw [if_neg (by rw [e0, iI_leI (by omega) (by omega)]; omega)]
    rw [if_pos c] at hj ⊢
    exact jo_eq (jr_edgeAt (w := 0) h hn hj) (jo_ret ⟨rfl, rfl⟩)
  · rw [if_pos (by rw [e0, iI_leI (by omega) (by omega)]; omega)]
    rw [if_neg c] at hj ⊢
    exact jo_eq (jr_edgeAt (w := 1) h hn hj) (jo_ret ⟨rfl, rfl⟩)
theorem jM_now (h : jMM m ad M0 S M) : M.2.2 (ad 0) = some (.inl (0, 63, .inl (S.1 0))) := h.1.2.1 0 (.inl rfl)
theorem jr_has {s k : Nat} (hs : s < 64) (hk : k < 32) : (jf_X1_has N (nI s) (nI k)).1 M = some (bI (s.testBit k = true), M) := by
  have key : ∀ s, s < 64 → ∀ k, k < 32 → (((nI s >>> (nI k &&& 31)) &&& 1 = 1) ↔ s.testBit k = true) := by decide +kernel
  refine jo_out ?_
  unfold jf_X1_has
  by_cases c : s.testBit k = true
  · rw [if_pos ((key s hs k hk).mpr c)]; exact jo_ret ⟨(bI_t c).symm, rfl⟩
  · rw [if_neg (fun x => c ((key s hs k hk).mp x))]; exact jo_ret ⟨(bI_f c).symm, rfl⟩
/-- how many in a set -/
def sN (s : Nat) : Nat := (jsum 6 (fun k => if s.testBit k = true then 1 else 0)).toNat
theorem jr_ones {s : Nat} (hs : s < 64) (hN : 10 < N) : (jf_X1_ones N (nI s)).1 M = some (nI (sN s), M) := by
  refine jo_out ?_
  unfold jf_X1_ones jf_X1_ones_k4_32
  refine jo_bd (jo_mono (jo_up 6 (fun i z M' => M' = M ∧ z = (iI (jsum i (fun k => if s.testBit k = true then 1 else 0)), nI i)) (fun r M' => M' = M ∧ r = nI (sN s)) ?_ ?_ N 0 _ M ⟨rfl, rfl⟩ (Nat.zero_le _) (by omega)) ?_)
  · rintro i z M' hi ⟨rfl, rfl⟩
    unfold jf_X1_ones_L4 jf_X1_ones_j24
    refine jo_f (show ¬ nI 6 ≤ nI i by rw [nI_leI (by decide) (by omega)]; omega) ?_
    refine jo_eq (jr_has hs (by omega)) ?_
    by_cases c : s.testBit i = true
    · rw [bI_t c, if_neg (by decide)]
      refine jo_ret ⟨rfl, ?_⟩
      show (iI _ + iI 1, nI i + 1) = _
      rw [iI_add, nI_1]
      show _ = (iI (jsum i _ + (if s.testBit i = true then 1 else 0)), _)
      rw [if_pos c]
    · rw [bI_f c, if_pos rfl]
      refine jo_ret ⟨rfl, ?_⟩
      show (iI _ + iI 0, nI i + 1) = _
      rw [iI_add, nI_1]
      show _ = (iI (jsum i _ + (if s.testBit i = true then 1 else 0)), _)
      rw [if_neg c]
  · rintro z M' ⟨rfl, rfl⟩
    unfold jf_X1_ones_L4
    refine jo_t (show nI 6 ≤ nI 6 by decide +kernel) ?_
    refine jo_ret ⟨rfl, ?_⟩
    show iI _ = nI (sN s)
    rw [nI_iI]
    unfold sN
    have := jsum_le (n := 6) (f := fun k => if s.testBit k = true then (1 : Int) else 0) (a := 1) (fun k _ => by split <;> omega)
    have h0 : 0 ≤ jsum 6 (fun k => if s.testBit k = true then (1 : Int) else 0) := by
      simp only [jsum]
      split <;> split <;> split <;> split <;> split <;> split <;> omega
    rw [Int.toNat_of_nonneg h0]
  · rintro r M' ⟨rfl, rfl⟩
    exact jo_ret ⟨rfl, rfl⟩
end RD
