/-! PLAIN LAW, 36: the answers to small questions; the model gives them -/
def BAD : Int32 := -1000001
def tn (x : Int32) : Nat := x.toInt.toNat
theorem tn_nI {k : Nat} (h : k < 2 ^ 31) : tn (nI k) = k := by unfold tn; rw [nI_toInt h]; rfl
def aChain (C : CX) (c e : Int32) : Int32 := if cIsChain C c ∧ cIsCell C 1 e then iI (cCh C (tn c) (tn e)) else BAD
def aEnds (C : CX) (c p : Int32) : Int32 := if cIsChain C c ∧ cIsCell C 0 p then iI (cEnd C (tn c) (tn p)) else BAD
def aTable (C : CX) (d i j : Int32) : Int32 := if (1 ≤ d.toInt ∧ d.toInt ≤ 2) ∧ (0 ≤ i.toInt ∧ i.toInt ≤ (cRows C (tn d) : Int) - 1) ∧ (0 ≤ j.toInt ∧ j.toInt ≤ (cCols C (tn d) : Int) - 1) then iI (cTab C (tn d) (tn i) (tn j)) else BAD
def cNs (C : CX) (w : Nat) : Nat := if w = 0 then cP C else cE C
def aNear (C : CX) (w i j : Int32) : Int32 := if (0 ≤ w.toInt ∧ w.toInt ≤ 2) ∧ (0 ≤ i.toInt ∧ i.toInt ≤ (cNs C (tn w) : Int) - 1) ∧ (0 ≤ j.toInt ∧ j.toInt ≤ (cNs C (tn w) : Int) - 1) then iI (cNear C (tn w) (tn i) (tn j)) else BAD
def lCode (L : Int) : Int := if L < 0 then 65 - L - 1 else 97 + L - 1
def aCell (C : CX) (d k w : Int32) : Int32 := if d = 0 ∨ ¬ cIsCell C d k then BAD else if w = 0 then nI (cWt C (tn d) (tn k)) else if d = 1 then (if w = 1 then nI (cEd C (tn k) 0) else if w = 2 then nI (cEd C (tn k) 1) else BAD)
  else if w = 1 then nI (cFl C (tn k)) else if w = 2 then nI (cEd C (lEd (cLt C (tn k) 0)) (if cLt C (tn k) 0 < 0 then 1 else 0)) else if 10 ≤ w.toInt ∧ w.toInt ≤ 13 then (if (tn w - 10) < cFl C (tn k) then iI (lCode (cLt C (tn k) (tn w - 10))) else -1000000) else BAD
def cIsAs (C : CX) (d k kd : Nat) : Bool := decide (kd = 0) || decide (kd = (if d = 2 then 4 else d + 1)) || (decide (kd = 3 ∧ d = 1 ∧ cEd C k 0 = cEd C k 1)) || (decide (kd = 5 ∧ d = 2) && cSeal C k)
def aAs (C : CX) (d k kd : Int32) : Int32 := if cIsCell C d k ∧ 0 ≤ kd.toInt ∧ kd.toInt ≤ 5 then (if cIsAs C (tn d) (tn k) (tn kd) = true then k else -1000000) else BAD
section RD
variable {N m a n : Nat} {ad : Nat → Nat} {M0 M : Mem} {S : MS} {C : CX} {b : Nat → Int32}
theorem jr_chain (h : jMM m ad M0 S M) (hC : jEnc C (S.1 0)) (hW : jWf C) {c e : Int32} : (jf_X1_chain N m c e).1 M = some (aChain C c e, M) := by
  refine jo_out ?_
  unfold jf_X1_chain aChain
  refine jo_rd (jM_cl h) (jo_eq (jr_isChain h hC hW) ?_)
  refine jo_bI (fun c1 => jo_ret ⟨(if_neg (fun x => c1 x.1)).symm, rfl⟩) (fun c1 => ?_)
  refine jo_rd (jM_cl h) (jo_eq (jr_isCell h hC hW) ?_)
  refine jo_bI (fun c2 => jo_ret ⟨(if_neg (fun x => c2 x.2)).symm, rfl⟩) (fun c2 => ?_)
  rw [if_pos ⟨c1, c2⟩]
  obtain ⟨c', h1, rfl, h3⟩ := n_of (n := 2) c1.2.1 c1.2.2 (by decide)
  obtain ⟨d', e', h4, h5, h6, rfl⟩ := cIsCell_of hW c2
  have hd : d' = 1 := by
    have := congrArg tn h6
    rw [tn_nI (by omega)] at this
    exact this.symm
  subst hd
  have h5 : e' < cE C := h5
  have h7 := hW.2.1
  rw [tn_nI (by omega), tn_nI (by omega)]
  refine jo_rd (jM_fR h (k := 0) rfl) (jo_rd (jr_ch h hC hW (by omega) h5 (by simp only [nI_lit, nI_mul, nI_add])) (jo_ret ⟨rfl, rfl⟩))
theorem jr_ends (h : jMM m ad M0 S M) (hC : jEnc C (S.1 0)) (hW : jWf C) (hN : 100 < N) {c p : Int32} : (jf_X1_ends N m c p).1 M = some (aEnds C c p, M) := by
  refine jo_out ?_
  unfold jf_X1_ends aEnds
  refine jo_rd (jM_cl h) (jo_eq (jr_isChain h hC hW) ?_)
  refine jo_bI (fun c1 => jo_ret ⟨(if_neg (fun x => c1 x.1)).symm, rfl⟩) (fun c1 => ?_)
  refine jo_rd (jM_cl h) (jo_eq (jr_isCell h hC hW) ?_)
  refine jo_bI (fun c2 => jo_ret ⟨(if_neg (fun x => c2 x.2)).symm, rfl⟩) (fun c2 => ?_)
  rw [if_pos ⟨c1, c2⟩]
  obtain ⟨c', h1, rfl, h3⟩ := n_of (n := 2) c1.2.1 c1.2.2 (by decide)
  obtain ⟨d', e', h4, h5, h6, rfl⟩ := cIsCell_of hW c2
  have hm := cMany_le hW d'
  rw [tn_nI (by omega), tn_nI (by omega)]
  exact jo_rd (jM_cl h) (jo_eq (jr_endsAt h hC hW hN (by omega) (by omega)) (jo_ret ⟨rfl, rfl⟩))
theorem nI_sub1 {k : Nat} (h : k < 1000) : ((nI k - (1 : Int32)).toInt64).toInt = (k : Int) - 1 := by
  rw [Int32.toInt_toInt64, nI_iI, show (1 : Int32) = iI 1 from rfl, iI_sub, iI_toInt (by omega) (by omega)]
theorem jr_table (h : jMM m ad M0 S M) (hC : jEnc C (S.1 0)) (hW : jWf C) (hN : 100 < N) {d i j : Int32} : (jf_X1_table N m d i j).1 M = some (aTable C d i j, M) := by
  refine jo_out ?_
  unfold jf_X1_table aTable
  refine jo_eq (in32 (a := 1) (b := 2) rfl rfl) ?_
  refine jo_bI (fun c1 => jo_ret ⟨(if_neg (fun x => c1 x.1)).symm, rfl⟩) (fun c1 => ?_)
  obtain ⟨d', h1, rfl, h3⟩ := n_of (n := 2) (by omega) c1.2 (by decide)
  have hd : d' = 1 ∨ d' = 2 := by omega
  rw [tn_nI (by omega)]
  have hr := cRows_le hW (d := d')
  have hc := cCols_le hW (d := d')
  refine jo_rd (jM_cl h) (jo_eq (jr_rows h hC hd) ?_)
  refine jo_eq (in32 (a := 0) rfl (nI_sub1 (by omega))) ?_
  refine jo_bI (fun c2 => jo_ret ⟨(if_neg (fun x => c2 x.2.1)).symm, rfl⟩) (fun c2 => ?_)
  refine jo_rd (jM_cl h) (jo_eq (jr_cols h hC hd) ?_)
  refine jo_eq (in32 (a := 0) rfl (nI_sub1 (by omega))) ?_
  refine jo_bI (fun c3 => jo_ret ⟨(if_neg (fun x => c3 x.2.2)).symm, rfl⟩) (fun c3 => ?_)
  rw [if_pos ⟨c1, c2, c3⟩]
  obtain ⟨i', h4, rfl, h5⟩ := n_of (n := 6) c2.1 (by omega) (by decide)
  obtain ⟨j', h6, rfl, h7⟩ := n_of (n := 6) c3.1 (by omega) (by decide)
  rw [tn_nI (by omega), tn_nI (by omega)]
  exact jo_rd (jM_cl h) (jo_eq (jr_entry h hC hW hN hd (by omega) (by omega)) (jo_ret ⟨rfl, rfl⟩))
theorem jr_nearSize (h : jMM m ad M0 S M) (hC : jEnc C (S.1 0)) {w : Nat} (hw : w < 3) : (jf_X1_nearSize N m (nI w)).1 M = some (nI (cNs C w), M) := by
  refine jo_out ?_
  unfold jf_X1_nearSize cNs
  by_cases c : w = 0
  · subst c
    exact jo_t (by rfl) (jo_rd (jM_fR h (k := 0) rfl) (jo_rd (jr_now0 h hC rfl) (jo_ret ⟨rfl, rfl⟩)))
  · rw [if_neg c]
    exact jo_f (show ¬ nI w = nI 0 by rw [nI_eq (by omega) (by omega)]; exact c) (jo_rd (jM_fR h (k := 0) rfl) (jo_rd (jr_now1 h hC rfl) (jo_ret ⟨rfl, rfl⟩)))
theorem jr_nearOp (h : jMM m ad M0 S M) (hC : jEnc C (S.1 0)) (hW : jWf C) (hN : 100 < N) {w i j : Int32} : (jf_X1_near N m w i j).1 M = some (aNear C w i j, M) := by
  refine jo_out ?_
  unfold jf_X1_near aNear
  refine jo_eq (in32 (a := 0) (b := 2) rfl rfl) ?_
  refine jo_bI (fun c1 => jo_ret ⟨(if_neg (fun x => c1 x.1)).symm, rfl⟩) (fun c1 => ?_)
  obtain ⟨w', h1, rfl, h3⟩ := n_of (n := 2) (by omega) c1.2 (by decide)
  rw [tn_nI (by omega)]
  have h5 := hW.1
  have h6 := hW.2.1
  have hs : cNs C w' ≤ 6 := by unfold cNs; split <;> omega
  refine jo_rd (jM_cl h) (jo_eq (jr_nearSize h hC (by omega)) ?_)
  refine jo_eq (in32 (a := 0) rfl (nI_sub1 (by omega))) ?_
  refine jo_bI (fun c2 => jo_ret ⟨(if_neg (fun x => c2 x.2.1)).symm, rfl⟩) (fun c2 => ?_)
  refine jo_rd (jM_cl h) (jo_eq (jr_nearSize h hC (by omega)) ?_)
  refine jo_eq (in32 (a := 0) rfl (nI_sub1 (by omega))) ?_
  refine jo_bI (fun c3 => jo_ret ⟨(if_neg (fun x => c3 x.2.2)).symm, rfl⟩) (fun c3 => ?_)
  rw [if_pos ⟨c1, c2, c3⟩]
  obtain ⟨i', h4, rfl, h5⟩ := n_of (n := 6) c2.1 (by omega) (by decide)
  obtain ⟨j', h6, rfl, h7⟩ := n_of (n := 6) c3.1 (by omega) (by decide)
  rw [tn_nI (by omega), tn_nI (by omega)]
  refine jo_rd (jM_cl h) (jo_eq (jr_near h hC hW hN (by omega) ?_ ?_) (jo_ret ⟨rfl, rfl⟩))
  · show i' < cNs C w'; omega
  · show j' < cNs C w'; omega
theorem jr_code {L : Int} (h1 : -100 ≤ L) (h2 : L ≤ 100) : (jf_X1_code N a (iI L)).1 M = some (iI (lCode L), M) := by
  refine jo_out ?_
  unfold jf_X1_code lCode
  have e0 : (0 : Int32) = iI 0 := rfl
  by_cases c : L < 0
  · refine jo_f (by rw [e0, iI_leI (by omega) (by omega)]; omega) (jo_ret ⟨?_, rfl⟩)
    rw [if_pos c, show (65 : Int32) = iI 65 from rfl, show (1 : Int32) = iI 1 from rfl, iI_sub, iI_sub]
  · refine jo_t (by rw [e0, iI_leI (by omega) (by omega)]; omega) (jo_ret ⟨?_, rfl⟩)
    rw [if_neg c, show (97 : Int32) = iI 97 from rfl, show (1 : Int32) = iI 1 from rfl, iI_add, iI_sub]
theorem jr_fault (h : jMM m ad M0 S M) : (jf_X1_fault N m).1 M = some (S.2.2.1 14, M) := by
  refine jo_out ?_
  unfold jf_X1_fault
  exact jo_rd (jM_fI h (k := 14) rfl) (jo_ret ⟨rfl, rfl⟩)
def aCount (C : CX) (acts taped : Int32) (w : Int32) : Int32 := if w = 0 then nI (cP C) else if w = 1 then nI (cE C) else if w = 2 then nI (cF C) else if w = 3 then acts else if w = 4 then taped else BAD
theorem jr_count (h : jMM m ad M0 S M) (hC : jEnc C (S.1 0)) {w : Int32} : (jf_X1_count N m w).1 M = some (aCount C (S.2.2.1 3) (S.2.2.1 7) w, M) := by
  refine jo_out ?_
  unfold jf_X1_count jf_X1_count_j36 aCount
  by_cases c0 : w = 0
  · subst c0; exact jo_t rfl (jo_rd (jM_fR h (k := 0) rfl) (jo_rd (jr_now0 h hC rfl) (jo_ret ⟨rfl, rfl⟩)))
  refine jo_f c0 ?_
  rw [if_neg c0]
  by_cases c1 : w = 1
  · subst c1; exact jo_t rfl (jo_rd (jM_fR h (k := 0) rfl) (jo_rd (jr_now1 h hC rfl) (jo_ret ⟨rfl, rfl⟩)))
  refine jo_f c1 ?_
  rw [if_neg c1]
  by_cases c2 : w = 2
  · subst c2; exact jo_t rfl (jo_rd (jM_fR h (k := 0) rfl) (jo_rd (jr_now2 h hC rfl) (jo_ret ⟨rfl, rfl⟩)))
  refine jo_f c2 ?_
  rw [if_neg c2]
  by_cases c3 : w = 3
  · subst c3; exact jo_t rfl (jo_rd (jM_fI h (k := 3) rfl) (jo_ret ⟨rfl, rfl⟩))
  refine jo_f c3 ?_
  rw [if_neg c3]
  by_cases c4 : w = 4
  · subst c4; exact jo_t rfl (jo_rd (jM_fI h (k := 7) rfl) (jo_ret ⟨rfl, rfl⟩))
  refine jo_f c4 ?_
  rw [if_neg c4]
  exact jo_ret ⟨rfl, rfl⟩
theorem n_eq {x : Int32} {k : Nat} (hk : k < 2 ^ 31) (h : x.toInt = (k : Int)) : x = nI k := Int32.toInt_inj.mp (by rw [h, nI_toInt hk])
theorem jr_cell (h : jMM m ad M0 S M) (hC : jEnc C (S.1 0)) (hW : jWf C) {d k w : Int32} : (jf_X1_cell N m d k w).1 M = some (aCell C d k w, M) := by
  refine jo_out ?_
  unfold jf_X1_cell jf_X1_cell_j45 aCell
  have h6 := hW.2.1
  by_cases c0 : d = 0
  · exact jo_t c0 (jo_ret ⟨(if_pos (.inl c0)).symm, rfl⟩)
  refine jo_f c0 (jo_rd (jM_cl h) (jo_eq (jr_isCell h hC hW) ?_))
  refine jo_bI (fun c1 => jo_ret ⟨(if_pos (.inr c1)).symm, rfl⟩) (fun c1 => ?_)
  rw [if_neg (show ¬ (d = 0 ∨ ¬ cIsCell C d k) from fun x => x.elim c0 (fun y => y c1))]
  obtain ⟨d', k', h1, h2, rfl, rfl⟩ := cIsCell_of hW c1
  have hm := cMany_le hW d'
  rw [tn_nI (by omega), tn_nI (by omega)]
  have hd : d' = 1 ∨ d' = 2 := by
    rcases (show d' = 0 ∨ d' = 1 ∨ d' = 2 by omega) with rfl | hd
    · exact absurd rfl c0
    · exact hd
  by_cases cw : w = 0
  · refine jo_t cw ?_
    rw [if_pos cw]
    refine (jo_rd (jM_fR h (k := 0) rfl) (jo_eq (jr_wt h hC hW hd ?_) (jo_ret ⟨rfl, rfl⟩)))
    rcases hd with rfl | rfl <;> exact h2
  refine jo_f cw ?_
  rw [if_neg cw]
  rcases hd with rfl | rfl
  · have h2 : k' < cE C := h2
    refine jo_t (show nI 1 = 1 from rfl) ?_
    rw [if_pos (show nI 1 = 1 from rfl)]
    by_cases w1 : w = 1
    · subst w1
      refine jo_t rfl ?_
      rw [if_pos rfl]
      exact (jo_rd (jM_fR h (k := 0) rfl) (jo_eq (jr_ed (w := 0) h hC hW h2 (by decide)) (jo_ret ⟨rfl, rfl⟩)))
    refine jo_f w1 ?_
    rw [if_neg w1]
    by_cases w2 : w = 2
    · subst w2
      refine jo_t rfl ?_
      rw [if_pos rfl]
      exact (jo_rd (jM_fR h (k := 0) rfl) (jo_eq (jr_ed (w := 1) h hC hW h2 (by decide)) (jo_ret ⟨rfl, rfl⟩)))
    refine jo_f w2 ?_
    rw [if_neg w2]
    exact jo_ret ⟨rfl, rfl⟩
  · have h2 : k' < cF C := h2
    have hf := hW.2.2.2.2.1 k' h2
    have ne : ¬ nI 2 = 1 := by decide +kernel
    refine jo_f ne ?_
    rw [if_neg ne]
    by_cases w1 : w = 1
    · refine jo_t w1 ?_
      rw [if_pos w1]
      exact (jo_rd (jM_fR h (k := 0) rfl) (jo_eq (jr_mn h hC hW h2) (jo_ret ⟨rfl, rfl⟩)))
    refine jo_f w1 ?_
    rw [if_neg w1]
    by_cases w2 : w = 2
    · refine jo_t w2 ?_
      rw [if_pos w2]
      have hL := hf.2.2.2.2 0 (by omega)
      have hle : lEd (cLt C k' 0) < cE C := by unfold lEd; split <;> omega
      refine (jo_rd (jM_fR h (k := 0) rfl) (jo_rd (jM_fR h (k := 0) rfl) (jo_eq (jr_lt (k := 0) h hC hW h2 (by omega)) ?_)))
      refine jo_eq (jr_beginOf (jM_now h) (by decide) (by omega) (by omega) hL.1 ?_) (jo_ret ⟨?_, rfl⟩)
      · unfold lBg; split <;> omega
      · show S.1 0 (lBg (cLt C k' 0)) = _
        unfold lBg
        rw [hC.2.2.2.1 _ _ hle (by split <;> omega)]
    refine jo_f w2 ?_
    rw [if_neg w2]
    refine (jo_eq (in32 (a := 10) (b := 13) rfl rfl) ?_)
    refine jo_bI (fun c3 => jo_ret ⟨(if_neg c3).symm, rfl⟩) (fun c3 => ?_)
    rw [if_pos c3]
    obtain ⟨w', h4, rfl, h5⟩ := n_of (n := 13) (by omega) c3.2 (by decide)
    rw [tn_nI (by omega)]
    have e10 : nI w' - (10 : Int32) = nI (w' - 10) := nI_sub (b := 10) (by omega)
    rw [e10]
    refine jo_rd (jM_fR h (k := 0) rfl) (jo_eq (jr_mn h hC hW h2) ?_)
    by_cases c4 : w' - 10 < cFl C k'
    · rw [if_pos c4]
      have hL := hf.2.2.2.2 _ c4
      refine jo_f (by rw [nI_leI (by omega) (by omega)]; omega) (jo_rd (jM_fR h (k := 0) rfl) (jo_eq (jr_lt h hC hW h2 c4) (jo_rd (jM_cl h) (jo_eq (jr_code (by omega) (by omega)) (jo_ret ⟨rfl, rfl⟩)))))
    · rw [if_neg c4]
      exact jo_t (by rw [nI_leI (by omega) (by omega)]; omega) (jo_ret ⟨rfl, rfl⟩)
theorem jr_as (h : jMM m ad M0 S M) (hC : jEnc C (S.1 0)) (hW : jWf C) (hN : 100 < N) {d k kd : Int32} : (jf_X1_as N m d k kd).1 M = some (aAs C d k kd, M) := by
  refine jo_out ?_
  have h6 := hW.2.1
  have h5 := hW.1
  unfold jf_X1_as jf_X1_as_j41 jf_X1_as_j75 jf_X1_as_j93 jf_X1_as_j97 jf_X1_as_j98 aAs
  refine jo_rd (jM_cl h) (jo_eq (jr_isCell h hC hW) ?_)
  refine jo_bI (fun c1 => jo_ret ⟨(if_neg (fun x => c1 x.1)).symm, rfl⟩) (fun c1 => ?_)
  refine jo_eq (in32 (a := 0) (b := 5) rfl rfl) ?_
  refine jo_bI (fun c2 => jo_ret ⟨(if_neg (fun x => c2 x.2)).symm, rfl⟩) (fun c2 => ?_)
  rw [if_pos (show cIsCell C d k ∧ 0 ≤ kd.toInt ∧ kd.toInt ≤ 5 from ⟨c1, c2⟩)]
  obtain ⟨d', k', h1, h2, rfl, rfl⟩ := cIsCell_of hW c1
  obtain ⟨kd', h3, rfl, h4⟩ := n_of (n := 5) c2.1 c2.2 (by decide)
  have hm := cMany_le hW d'
  rw [tn_nI (by omega), tn_nI (by omega), tn_nI (by omega)]
  have yes : ∀ {p : jm_P Int32}, cIsAs C d' k' kd' = true → jo (if (1 : Int32) = 0 then p else jm_ret (nI k')) M (fun r M' => r = (if cIsAs C d' k' kd' = true then nI k' else -1000000) ∧ M' = M) := fun e => jo_f (by decide) (jo_ret ⟨(if_pos e).symm, rfl⟩)
  have no : ∀ {p : jm_P Int32}, ¬ cIsAs C d' k' kd' = true → jo (if (0 : Int32) = 0 then jm_ret (-1000000 : Int32) else p) M (fun r M' => r = (if cIsAs C d' k' kd' = true then nI k' else -1000000) ∧ M' = M) := fun e => jo_t rfl (jo_ret ⟨(if_neg e).symm, rfl⟩)
  by_cases z0 : kd' = 0
  · refine jo_t (show nI kd' = nI 0 by rw [z0]) (yes ?_)
    simp [cIsAs, z0]
  refine jo_f (show ¬ nI kd' = nI 0 by rw [nI_eq (by omega) (by omega)]; exact z0) ?_
  by_cases z2 : d' = 2
  · subst z2
    have h2 : k' < cF C := h2
    refine jo_t (by rfl) ?_
    by_cases z4 : kd' = 4
    · subst z4
      exact jo_t (by rfl) (yes (by simp [cIsAs]))
    refine jo_f (show ¬ nI kd' = nI 4 by rw [nI_eq (by omega) (by omega)]; exact z4) ?_
    have tail : jo (if nI kd' = (5 : Int32) then (if nI 2 = (2 : Int32) then jm_rd (jm_cl 1 (some m)) fun a8 => jm_bd (jf_X1_isSealed N a8 (nI k')) fun x5 => if x5 = 0 then (if (0 : Int32) = 0 then jm_ret (-1000000 : Int32) else jm_ret (nI k')) else (if (1 : Int32) = 0 then jm_ret (-1000000 : Int32) else jm_ret (nI k')) else (if (0 : Int32) = 0 then jm_ret (-1000000 : Int32) else jm_ret (nI k'))) else (if (0 : Int32) = 0 then jm_ret (-1000000 : Int32) else jm_ret (nI k'))) M (fun r M' => r = (if cIsAs C 2 k' kd' = true then nI k' else -1000000) ∧ M' = M) := by
      by_cases z5 : kd' = 5
      · refine jo_t (show nI kd' = nI 5 by rw [z5]) (jo_t (by rfl) (jo_rd (jM_cl h) (jo_eq (jr_isSealed h hC hW hN h2) ?_)))
        refine jo_bI (fun c5 => no ?_) (fun c5 => yes ?_)
        · simp [cIsAs, z5]; simpa using c5
        · simp [cIsAs, z5, c5]
      · refine jo_f (show ¬ nI kd' = nI 5 by rw [nI_eq (by omega) (by omega)]; exact z5) (no ?_)
        simp [cIsAs, z0, z4, z5]
    by_cases z3 : kd' = 3
    · refine jo_t (show nI kd' = nI 3 by rw [z3]) (jo_f (by decide +kernel) tail)
    · exact jo_f (show ¬ nI kd' = nI 3 by rw [nI_eq (by omega) (by omega)]; exact z3) tail
  · refine jo_f (show ¬ nI d' = nI 2 by rw [nI_eq (by omega) (by omega)]; exact z2) ?_
    by_cases z4 : kd' = d' + 1
    · refine jo_t (show nI kd' = nI d' + 1 by rw [nI_1, z4]) (yes ?_)
      simp [cIsAs, z2, z4]
    refine jo_f (show ¬ nI kd' = nI d' + 1 by rw [nI_1, nI_eq (by omega) (by omega)]; exact z4) ?_
    have tail : ¬ (kd' = 3 ∧ d' = 1 ∧ cEd C k' 0 = cEd C k' 1) → jo (if nI kd' = (5 : Int32) then (if nI d' = (2 : Int32) then jm_rd (jm_cl 1 (some m)) fun a8 => jm_bd (jf_X1_isSealed N a8 (nI k')) fun x5 => if x5 = 0 then (if (0 : Int32) = 0 then jm_ret (-1000000 : Int32) else jm_ret (nI k')) else (if (1 : Int32) = 0 then jm_ret (-1000000 : Int32) else jm_ret (nI k')) else (if (0 : Int32) = 0 then jm_ret (-1000000 : Int32) else jm_ret (nI k'))) else (if (0 : Int32) = 0 then jm_ret (-1000000 : Int32) else jm_ret (nI k'))) M (fun r M' => r = (if cIsAs C d' k' kd' = true then nI k' else -1000000) ∧ M' = M) := by
      intro q
      have nn : ¬ cIsAs C d' k' kd' = true := by simp [cIsAs, z0, z2, z4]; exact fun a b => fun e => q ⟨a, b, e⟩
      by_cases z5 : kd' = 5
      · exact jo_t (show nI kd' = nI 5 by rw [z5]) (jo_f (show ¬ nI d' = nI 2 by rw [nI_eq (by omega) (by omega)]; exact z2) (no nn))
      · exact jo_f (show ¬ nI kd' = nI 5 by rw [nI_eq (by omega) (by omega)]; exact z5) (no nn)
    by_cases z3 : kd' = 3
    · refine jo_t (show nI kd' = nI 3 by rw [z3]) ?_
      by_cases z1 : d' = 1
      · subst z1
        have h2 : k' < cE C := h2
        have he := hW.2.2.2.1 k' h2
        refine jo_t (by rfl) (jo_rd (jM_fR h (k := 0) rfl) (jo_eq (jr_ed (w := 0) h hC hW h2 (by decide)) (jo_rd (jM_fR h (k := 0) rfl) (jo_eq (jr_ed (w := 1) h hC hW h2 (by decide)) ?_))))
        by_cases e : cEd C k' 0 = cEd C k' 1
        · exact jo_t (by rw [e]) (yes (by simp [cIsAs, z3, e]))
        · exact jo_f (by rw [nI_eq (by omega) (by omega)]; exact e) (tail (fun x => e x.2.2))
      · exact jo_f (show ¬ nI d' = nI 1 by rw [nI_eq (by omega) (by omega)]; exact z1) (tail (fun x => z1 x.2.1))
    · exact jo_f (show ¬ nI kd' = nI 3 by rw [nI_eq (by omega) (by omega)]; exact z3) (tail (fun x => z3 x.1))
end RD
