/-! PLAIN LAW, 45: the text of a complex: the parser as data; the model's steps -/
abbrev PE : Type := Nat × Nat
def tkc (c : Nat) : Nat := if (97 ≤ c ∧ c ≤ 122) ∨ (65 ≤ c ∧ c ≤ 90) then 1 else if 48 ≤ c ∧ c ≤ 57 then 2 else if c = 59 then 3 else 4
/-- what stands at a place: 0 the end, 1 a letter, 2 a digit, 3 a stop, 4 else -/
def tk (n : Nat) (t : Nat → Nat) (i : Nat) : Nat := if i < n then tkc (t i) else 0
def pDigit (n : Nat) (t : Nat → Nat) (lo hi i : Nat) : PE ⊕ Nat := if tk n t i ≠ 2 then .inl (1, i) else if ¬ (lo ≤ t i - 48 ∧ (t i - 48) + 1 ≤ hi) then .inl (2, i) else .inr (t i - 48)
def pStop (n : Nat) (t : Nat → Nat) (i : Nat) : PE ⊕ Unit := if tk n t i = 3 then .inr () else .inl (1, i)
def pEdge (n : Nat) (t : Nat → Nat) (C : CX) (i : Nat) : PE ⊕ (CX × Nat) :=
  if cE C = 6 then .inl (3, i) else match pDigit n t 0 (cP C) (i + 1) with
  | .inl e => .inl e
  | .inr p => match pDigit n t 0 (cP C) (i + 2) with
    | .inl e => .inl e
    | .inr q => match pDigit n t 1 4 (i + 3) with
      | .inl e => .inl e
      | .inr w => match pStop n t (i + 4) with
        | .inl e => .inl e
        | .inr _ => .inr (xEdge C p q w, i + 5)
/-- letters from place i on, k of them read: how many -/
def pWord (n : Nat) (t : Nat → Nat) (C : CX) (i : Nat) : Nat → Nat → PE ⊕ Nat
  | 0, k => .inr k
  | g + 1, k => if tk n t (i + k) = 1 then (if wNx C (fun j => lb C (t (i + j))) k (lb C (t (i + k))) = true then pWord n t C i g (k + 1) else .inl (2, i + k)) else .inr k
def pFace (n : Nat) (t : Nat → Nat) (C : CX) (i : Nat) : PE ⊕ (CX × Nat) :=
  if cF C = 4 then .inl (3, i) else match pDigit n t 1 4 (i + 1) with
  | .inl e => .inl e
  | .inr w => match pWord n t C (i + 2) 6 0 with
    | .inl e => .inl e
    | .inr k => if k = 0 then .inl (1, i + 2) else if tk n t (i + 2 + k) = 3 then (if wCl C (fun j => lb C (t (i + 2 + j))) k = true then .inr (xFace C w k (fun j => lb C (t (i + 2 + j))), i + 3 + k) else .inl (2, i + 2 + k)) else .inl (1, i + 2 + k)
def pEdges (n : Nat) (t : Nat → Nat) : Nat → CX → Nat → PE ⊕ (CX × Nat)
  | 0, C, i => .inr (C, i)
  | g + 1, C, i => if i < n ∧ t i = 101 then (match pEdge n t C i with
    | .inl e => .inl e
    | .inr x => pEdges n t g x.1 x.2) else .inr (C, i)
def pFaces (n : Nat) (t : Nat → Nat) : Nat → CX → Nat → PE ⊕ (CX × Nat)
  | 0, C, i => .inr (C, i)
  | g + 1, C, i => if i < n ∧ t i = 102 then (match pFace n t C i with
    | .inl e => .inl e
    | .inr x => pFaces n t g x.1 x.2) else .inr (C, i)
/-- a complex with no edges and faces, its chains are nil -/
def x0 (p : Nat) : CX := (p, 0, 0, fun _ _ => 0, fun _ => 0, fun _ => 0, fun _ _ => 0, fun _ _ => 0)
def pAll (n : Nat) (t : Nat → Nat) : PE ⊕ CX :=
  if ¬ (0 < n ∧ t 0 = 99) then .inl (1, 0) else match pDigit n t 1 6 1 with
  | .inl e => .inl e
  | .inr p => match pStop n t 2 with
    | .inl e => .inl e
    | .inr _ => match pEdges n t 8 (x0 p) 3 with
      | .inl e => .inl e
      | .inr x => match pFaces n t 8 x.1 x.2 with
        | .inl e => .inl e
        | .inr y => if tk n t y.2 = 0 then .inr y.1 else .inl (1, y.2)
def oComplex (T : ST) : Int32 × ST := match pAll (sTaped T) (sTape T) with
  | .inl e => (iI (-1000100 - (e.2 : Int)), (T.1, T.2.1, T.2.2.1, (0, sTape T), e.1))
  | .inr C => (nI (cP C + cE C + cF C), (C, (0, sPast T), T.2.2.1, (0, sTape T), sFault T))
/-- the model's own kinds of tokens -/
def mtk (n : Nat) (t : Nat → Nat) (i : Nat) : Nat := if i < n then (if t i = 44 then 3 else tkc (t i)) else 0
def mvl (n : Nat) (t : Nat → Nat) (i : Nat) : Int := if i < n then (t i : Int) else -1
/-- where the model's reading stands: at a place, or at a fault -/
def jSt (n : Nat) (t : Nat → Nat) (s : Nat → Int32) (u : PE ⊕ Nat) : Prop := match u with
  | .inr p => s 12 = nI 0 ∧ s 8 = nI (if p < n then p + 1 else p) ∧ s 9 = nI p ∧ s 10 = nI (mtk n t p) ∧ s 11 = iI (mvl n t p) ∧ p ≤ n
  | .inl e => s 12 = nI e.1 ∧ s 13 = nI e.2 ∧ 1 ≤ e.1 ∧ e.1 ≤ 3 ∧ e.2 ≤ n
/-- the model while it reads: the draft, where it stands -/
def jPM (m : Nat) (ad : Nat → Nat) (M0 : Mem) (S : MS) (n : Nat) (t : Nat → Nat) (d : Nat → Int32) (u : PE ⊕ Nat) (M : Mem) : Prop := ∃ s, jMM m ad M0 (va_up S.1 1 d, S.2.1, s, S.2.2.2) M ∧ (∀ k, k < 8 ∨ 13 < k → s k = S.2.2.1 k) ∧ jSt n t s u
/-- the script's tape in the model -/
def jTp (S : MS) (n : Nat) (t : Nat → Nat) : Prop := n ≤ 90 ∧ S.2.2.1 7 = nI n ∧ ∀ i, i < n → S.1 6 i = nI (t i) ∧ t i < 256
section PA
variable {N m n : Nat} {ad : Nat → Nat} {M0 M : Mem} {S : MS} {t : Nat → Nat} {d : Nat → Int32}
theorem jM_fIx {S : MS} (h : jMM m ad M0 S M) {k : Nat} {x : Int32} (hv : (jM_vals ad S)[k]? = some (.int (S.2.2.1 k))) (e : S.2.2.1 k = x) : jm_fI [1] k (some m) M = some x := e ▸ jM_fI h hv
theorem tkc_le (c : Nat) : tkc c ≤ 4 ∧ 1 ≤ tkc c := by unfold tkc; (repeat' split) <;> omega
theorem mtk_le (i : Nat) : mtk n t i ≤ 4 := by
  unfold mtk
  have := tkc_le (t i)
  (repeat' split) <;> omega
theorem jm_reads (hT : jTp S n t) {p : Nat} (hp : p ≤ n) {s : Nat → Int32} (h : jMM m ad M0 (va_up S.1 1 d, S.2.1, s, S.2.2.2) M) (hs : ∀ k, k < 8 ∨ 13 < k → s k = S.2.2.1 k) (h8 : s 8 = nI p) (h12 : s 12 = nI 0) : jo (jf_X1_reads N m) M (fun _ M' => jPM m ad M0 S n t d (.inr p) M') := by
  obtain ⟨hn, hU, ht⟩ := hT
  have fin : ∀ (M1 : Mem) (s1 : Nat → Int32) (k : Nat), jMM m ad M0 (va_up S.1 1 d, S.2.1, s1, S.2.2.2) M1 → (∀ k, k < 8 ∨ 13 < k → s1 k = S.2.2.1 k) → s1 12 = nI 0 → s1 8 = nI (if p < n then p + 1 else p) → s1 9 = nI p → s1 11 = iI (mvl n t p) → k = mtk n t p → jo (jf_X1_reads_j116 N (some m) (nI k)) M1 (fun _ M' => jPM m ad M0 S n t d (.inr p) M') := by
    intro M1 s1 k k1 k2 k3 k4 k5 k6 k7
    unfold jf_X1_reads_j116
    refine jM_puI k1 (by decide) rfl (fun M2 h2 => jo_ret ⟨_, h2, fun j hj => ?_, ?_, ?_, ?_, ?_, ?_, hp⟩)
    · rw [va_up_ne _ _ (by omega)]; exact k2 j hj
    · rw [va_up_ne _ _ (by decide)]; exact k3
    · rw [va_up_ne _ _ (by decide)]; exact k4
    · rw [va_up_ne _ _ (by decide)]; exact k5
    · rw [k7]; exact va_up_self s1 10 _
    · rw [va_up_ne _ _ (by decide)]; exact k6
  unfold jf_X1_reads
  refine jo_rd (jM_fIx h (k := 8) rfl h8) ?_
  refine jM_puI h (by decide) rfl (fun M1 h1 => ?_)
  have h1 : jMM m ad M0 (va_up S.1 1 d, S.2.1, va_up s 9 (nI p), S.2.2.2) M1 := h1
  refine jo_rd (jM_fIx h1 (k := 8) rfl ((va_up_ne (j := 8) (k := 9) s (nI p) (by decide)).trans h8)) ?_
  have hb : (jf_X1_byteAt N m (nI p)).1 M1 = some (iI (mvl n t p), M1) := by
    refine jo_out ?_
    unfold jf_X1_byteAt
    refine jo_rd (jM_fIx h1 (k := 7) rfl ((va_up_ne (j := 7) (k := 9) s (nI p) (by decide)).trans ((hs 7 (by decide)).trans hU))) ?_
    unfold mvl
    by_cases c : p < n
    · rw [if_pos c]
      refine jo_f (by rw [nI_leI (by omega) (by omega)]; omega) (jo_rd (jM_fR h1 (k := 6) rfl) ?_)
      refine jo_rd (jM_ldI h1 (k := 6) (.inr (.inr (.inr (.inr (.inr rfl))))) rfl (j := p) (jm_ixn (by show _ < 90; omega) (by decide))) (jo_ret ⟨?_, rfl⟩)
      show va_up S.1 1 d 6 p = _
      rw [va_up_ne _ _ (by decide), (ht p c).1, nI_iI]
    · rw [if_neg c]
      exact jo_t (by rw [nI_leI (by omega) (by omega)]; omega) (jo_ret ⟨rfl, rfl⟩)
  refine jo_rd (jM_cl h1) (jo_eq hb ?_)
  refine jM_puI h1 (by decide) rfl (fun M2 h2 => ?_)
  have h2 : jMM m ad M0 (va_up S.1 1 d, S.2.1, va_up (va_up s 9 (nI p)) 11 (iI (mvl n t p)), S.2.2.2) M2 := h2
  generalize hs2 : va_up (va_up s 9 (nI p)) 11 (iI (mvl n t p)) = s2 at h2
  have g8 : s2 8 = nI p := by rw [← hs2, va_up_ne _ _ (by decide), va_up_ne _ _ (by decide)]; exact h8
  have g9 : s2 9 = nI p := by rw [← hs2, va_up_ne _ _ (by decide), va_up_self]
  have g11 : s2 11 = iI (mvl n t p) := by rw [← hs2, va_up_self]
  have g12 : s2 12 = nI 0 := by rw [← hs2, va_up_ne _ _ (by decide), va_up_ne _ _ (by decide)]; exact h12
  have gk : ∀ k, k < 8 ∨ 13 < k → s2 k = S.2.2.1 k := fun k hk => by rw [← hs2, va_up_ne _ _ (by omega), va_up_ne _ _ (by omega)]; exact hs k hk
  refine jo_rd (jM_fIx h2 (k := 8) rfl g8) ?_
  have mid : ∀ x : Nat, x = (if p < n then 1 else 0) → jo (jf_X1_reads_j36 N m (iI (mvl n t p)) (some m) (nI p) (nI x)) M2 (fun _ M' => jPM m ad M0 S n t d (.inr p) M') := by
    intro x hx
    unfold jf_X1_reads_j36 jf_X1_reads_j77 jf_X1_reads_j111
    refine jM_puI h2 (by decide) rfl (fun M3 h3 => ?_)
    have h3 : jMM m ad M0 (va_up S.1 1 d, S.2.1, va_up s2 8 (nI p + nI x), S.2.2.2) M3 := h3
    generalize hs3 : va_up s2 8 (nI p + nI x) = s3 at h3
    have f8 : s3 8 = nI (if p < n then p + 1 else p) := by
      rw [← hs3, va_up_self, nI_add, hx]
      congr 1
      split <;> omega
    have f9 : s3 9 = nI p := by rw [← hs3, va_up_ne _ _ (by decide)]; exact g9
    have f11 : s3 11 = iI (mvl n t p) := by rw [← hs3, va_up_ne _ _ (by decide)]; exact g11
    have f12 : s3 12 = nI 0 := by rw [← hs3, va_up_ne _ _ (by decide)]; exact g12
    have fk : ∀ k, k < 8 ∨ 13 < k → s3 k = S.2.2.1 k := fun k hk => by rw [← hs3, va_up_ne _ _ (by omega)]; exact gk k hk
    have en : ∀ k, k = mtk n t p → jo (jf_X1_reads_j116 N (some m) (nI k)) M3 (fun _ M' => jPM m ad M0 S n t d (.inr p) M') := fun k hk => fin M3 s3 k h3 fk f12 f8 f9 f11 hk
    by_cases c : p < n
    · have hv : mvl n t p = (t p : Int) := if_pos c
      have h256 := (ht p c).2
      rw [hv]
      have em : ∀ k, k = (if t p = 44 then 3 else tkc (t p)) → k = mtk n t p := fun k hk => by unfold mtk; rw [if_pos c]; exact hk
      refine jo_t (show iI 0 ≤ iI _ by rw [iI_leI (by omega) (by omega)]; omega) ?_
      have hi : (iI (t p : Int)).toInt = (t p : Int) := iI_toInt (by omega) (by omega)
      refine jo_eq (in32 (a := 97) (b := 122) rfl rfl) ?_
      rw [hi]
      refine jo_bI (fun a1 => ?_) (fun a1 => en 1 (em 1 (by rw [if_neg (by omega)]; unfold tkc; rw [if_pos (by omega)])))
      refine jo_eq (in32 (a := 65) (b := 90) rfl rfl) ?_
      rw [hi]
      refine jo_bI (fun a2 => ?_) (fun a2 => en 1 (em 1 (by rw [if_neg (by omega)]; unfold tkc; rw [if_pos (by omega)])))
      refine jo_eq (in32 (a := 48) (b := 57) rfl rfl) ?_
      rw [hi]
      refine jo_bI (fun a3 => ?_) (fun a3 => en 2 (em 2 (by rw [if_neg (by omega)]; unfold tkc; rw [if_neg (by omega), if_pos (by omega)])))
      by_cases a4 : t p = 44
      · exact jo_t (by rw [a4]; rfl) (en 3 (em 3 (by rw [if_pos a4])))
      refine jo_f (show ¬ iI _ = iI 44 by rw [iI_eqI (by omega) (by omega)]; omega) ?_
      by_cases a5 : t p = 59
      · exact jo_t (by rw [a5]; rfl) (en 3 (em 3 (by rw [if_neg a4, a5]; rfl)))
      · exact jo_f (show ¬ iI _ = iI 59 by rw [iI_eqI (by omega) (by omega)]; omega) (en 4 (em 4 (by rw [if_neg a4]; unfold tkc; rw [if_neg (by omega), if_neg (by omega), if_neg a5])))
    · have hv : mvl n t p = -1 := if_neg c
      rw [hv]
      exact jo_f (show ¬ iI 0 ≤ iI (-1) by rw [iI_leI (by omega) (by omega)]; omega) (en 0 (by unfold mtk; rw [if_neg c]))
  by_cases c : p < n
  · have hv : mvl n t p = (t p : Int) := if_pos c
    have h256 := (ht p c).2
    exact jo_t (show iI 0 ≤ iI _ by rw [hv, iI_leI (by omega) (by omega)]; omega) (mid 1 (by rw [if_pos c]))
  · have hv : mvl n t p = -1 := if_neg c
    exact jo_f (show ¬ iI 0 ≤ iI _ by rw [hv, iI_leI (by omega) (by omega)]; omega) (mid 0 (by rw [if_neg c]))
/-- a fault is noted where it is the first one -/
def uBad (u : PE ⊕ Nat) (k : Nat) : PE ⊕ Nat := match u with
  | .inr p => .inl (k, p)
  | .inl e => .inl e
def uGo (n : Nat) (u : PE ⊕ Nat) : PE ⊕ Nat := match u with
  | .inr p => .inr (if p < n then p + 1 else p)
  | .inl e => .inl e
theorem jmp_bad {u : PE ⊕ Nat} (h : jPM m ad M0 S n t d u M) {k : Nat} (hk : 1 ≤ k ∧ k ≤ 3) : jo (jf_X1_bad N m (nI k)) M (fun _ M' => jPM m ad M0 S n t d (uBad u k) M') := by
  obtain ⟨s, h1, h2, h3⟩ := h
  unfold jf_X1_bad
  refine jo_rd (jM_fI h1 (k := 12) rfl) ?_
  cases u with
  | inr p =>
    obtain ⟨g12, g8, g9, g10, g11, gp⟩ := h3
    refine jo_t (show s 12 = nI 0 from g12) ?_
    refine jM_puI h1 (by decide) rfl (fun M1 k1 => ?_)
    have k1 : jMM m ad M0 (va_up S.1 1 d, S.2.1, va_up s 12 (nI k), S.2.2.2) M1 := k1
    refine jo_rd (jM_fIx k1 (k := 9) rfl ((va_up_ne (j := 9) (k := 12) s (nI k) (by decide)).trans g9)) ?_
    refine jM_puI k1 (by decide) rfl (fun M2 k2 => ?_)
    have k2 : jMM m ad M0 (va_up S.1 1 d, S.2.1, va_up (va_up s 12 (nI k)) 13 (nI p), S.2.2.2) M2 := k2
    refine jo_ret ⟨_, k2, fun j hj => ?_, ?_, ?_, hk.1, hk.2, gp⟩
    · rw [va_up_ne _ _ (by omega), va_up_ne _ _ (by omega)]; exact h2 j hj
    · rw [va_up_ne _ _ (by decide), va_up_self]
    · rw [va_up_self]
  | inl e =>
    have g := h3
    obtain ⟨g12, g13, g14, g15, g16⟩ := h3
    exact jo_f (show ¬ s 12 = nI 0 by rw [g12, nI_eq (by omega) (by omega)]; omega) (jo_ret ⟨s, h1, h2, g⟩)
theorem jm_goesOn (hT : jTp S n t) {u : PE ⊕ Nat} (h : jPM m ad M0 S n t d u M) : jo (jf_X1_goesOn N m) M (fun _ M' => jPM m ad M0 S n t d (uGo n u) M') := by
  obtain ⟨s, h1, h2, h3⟩ := h
  unfold jf_X1_goesOn
  refine jo_rd (jM_fI h1 (k := 12) rfl) ?_
  cases u with
  | inr p =>
    obtain ⟨g12, g8, g9, g10, g11, gp⟩ := h3
    refine jo_t (show s 12 = nI 0 from g12) (jo_rd (jM_cl h1) (jo_bd (jo_mono (jm_reads hT (p := if p < n then p + 1 else p) (by split <;> omega) h1 h2 g8 g12) (fun _ M' k => jo_ret k))))
  | inl e =>
    have g := h3
    obtain ⟨g12, g13, g14, g15, g16⟩ := h3
    exact jo_f (show ¬ s 12 = nI 0 by rw [g12, nI_eq (by omega) (by omega)]; omega) (jo_ret ⟨s, h1, h2, g⟩)
/-- a digit: what is read, where it stands behind it -/
def uDig (n : Nat) (t : Nat → Nat) (lo hi : Nat) (u : PE ⊕ Nat) : Nat × (PE ⊕ Nat) := match u with
  | .inl e => (lo, .inl e)
  | .inr p => match pDigit n t lo hi p with
    | .inl e => (lo, .inl e)
    | .inr v => (v, .inr (p + 1))
theorem mtk_2 (i : Nat) : mtk n t i = 2 ↔ tk n t i = 2 := by
  unfold mtk tk tkc
  (repeat' split) <;> omega
theorem jm_digit (hT : jTp S n t) {u : PE ⊕ Nat} (h : jPM m ad M0 S n t d u M) {lo hi : Nat} (hlo : lo < 10) (hhi : 1 ≤ hi ∧ hi < 10) : jo (jf_X1_digit N m (nI lo) (nI (hi - 1))) M (fun r M' => r = nI (uDig n t lo hi u).1 ∧ jPM m ad M0 S n t d (uDig n t lo hi u).2 M') := by
  have hT0 := hT
  obtain ⟨hn, hU, ht⟩ := hT
  have endF : ∀ (M1 : Mem) (e : PE), jPM m ad M0 S n t d (.inl e) M1 → jo (jf_X1_digit_j39 N m (nI lo)) M1 (fun r M' => r = nI lo ∧ jPM m ad M0 S n t d (.inl e) M') := by
    intro M1 e k
    have k0 := k
    obtain ⟨s1, q1, q2, q3⟩ := k
    have g := q3
    obtain ⟨g12, g13, g14, g15, g16⟩ := q3
    unfold jf_X1_digit_j39 jf_X1_digit_j57
    refine jo_rd (jM_fI q1 (k := 12) rfl) ?_
    refine jo_f (show ¬ s1 12 = nI 0 by rw [g12, nI_eq (by omega) (by omega)]; omega) ?_
    exact jo_rd (jM_cl q1) (jo_bd (jo_mono (jm_goesOn hT0 k0) (fun _ M' k => jo_ret ⟨rfl, k⟩)))
  have h0 := h
  obtain ⟨s, h1, h2, h3⟩ := h
  unfold jf_X1_digit
  refine jo_rd (jM_fI h1 (k := 10) rfl) ?_
  cases u with
  | inl e =>
    show jo _ _ (fun r M' => r = nI lo ∧ jPM m ad M0 S n t d (.inl e) M')
    by_cases c : s 10 = (2 : Int32)
    · refine jo_t c (jo_rd (jM_fI h1 (k := 11) rfl) (jo_eq jp_in ?_))
      refine jo_bI (fun _ => ?_) (fun _ => endF M e h0)
      exact jo_rd (jM_cl h1) (jo_bd (jo_mono (jmp_bad h0 (k := 2) (by decide)) (fun _ M' k => endF M' e k)))
    · refine jo_f c (jo_rd (jM_cl h1) (jo_bd (jo_mono (jmp_bad h0 (k := 1) (by decide)) (fun _ M' k => endF M' e k))))
  | inr p =>
    obtain ⟨g12, g8, g9, g10, g11, gp⟩ := h3
    show jo _ _ (fun r M' => r = nI (match pDigit n t lo hi p with
      | .inl e => (lo, .inl e)
      | .inr v => (v, .inr (p + 1)) : Nat × (PE ⊕ Nat)).1 ∧ jPM m ad M0 S n t d (match pDigit n t lo hi p with
      | .inl e => (lo, .inl e)
      | .inr v => (v, .inr (p + 1)) : Nat × (PE ⊕ Nat)).2 M')
    unfold pDigit
    by_cases c : tk n t p = 2
    · rw [if_neg (show ¬ tk n t p ≠ 2 from fun x => x c)]
      have cm := (mtk_2 p).mpr c
      have cn : p < n := by
        refine Classical.byContradiction fun x => ?_
        unfold tk at c
        rw [if_neg x] at c
        omega
      have cd : 48 ≤ t p ∧ t p ≤ 57 := by
        unfold tk tkc at c
        rw [if_pos cn] at c
        split at c
        · omega
        · split at c
          · assumption
          · split at c <;> omega
      refine jo_t (show s 10 = nI 2 by rw [g10, cm]) (jo_rd (jM_fI h1 (k := 11) rfl) ?_)
      rw [show (va_up S.1 1 d, S.2.1, s, S.2.2.2).2.2.1 11 = iI (t p : Int) from g11.trans (congrArg iI (if_pos cn)), show iI (t p : Int) - (48 : Int32) = nI (t p - 48) by rw [← nI_iI]; exact nI_sub (b := 48) cd.1]
      refine jo_eq (in32 (a := (lo : Int)) (b := ((hi - 1 : Nat) : Int)) (by rw [Int32.toInt_toInt64, nI_toInt (by omega)]) (by rw [Int32.toInt_toInt64, nI_toInt (by omega)])) ?_
      rw [nI_toInt (by omega)]
      refine jo_bI (fun c2 => ?_) (fun c2 => ?_)
      · rw [if_pos (show ¬ (lo ≤ t p - 48 ∧ t p - 48 + 1 ≤ hi) by omega)]
        exact jo_rd (jM_cl h1) (jo_bd (jo_mono (jmp_bad h0 (k := 2) (by decide)) (fun _ M' k => endF M' (2, p) k)))
      · rw [if_neg (show ¬ ¬ (lo ≤ t p - 48 ∧ t p - 48 + 1 ≤ hi) by omega)]
        unfold jf_X1_digit_j39 jf_X1_digit_j57
        refine jo_rd (jM_fI h1 (k := 12) rfl) (jo_t (show s 12 = nI 0 from g12) (jo_rd (jM_fI h1 (k := 11) rfl) ?_))
        rw [show (va_up S.1 1 d, S.2.1, s, S.2.2.2).2.2.1 11 = iI (t p : Int) from g11.trans (congrArg iI (if_pos cn)), show iI (t p : Int) - (48 : Int32) = nI (t p - 48) by rw [← nI_iI]; exact nI_sub (b := 48) cd.1]
        refine jo_rd (jM_cl h1) (jo_bd (jo_mono (jm_goesOn hT0 h0) (fun _ M' k => jo_ret ⟨rfl, ?_⟩)))
        have k : jPM m ad M0 S n t d (.inr (if p < n then p + 1 else p)) M' := k
        rw [if_pos cn] at k
        exact k
    · rw [if_pos (show tk n t p ≠ 2 from c)]
      have cm : ¬ mtk n t p = 2 := fun x => c ((mtk_2 p).mp x)
      have := mtk_le (n := n) (t := t) p
      refine jo_f (show ¬ s 10 = nI 2 by rw [g10, nI_eq (by omega) (by omega)]; exact cm) ?_
      exact jo_rd (jM_cl h1) (jo_bd (jo_mono (jmp_bad h0 (k := 1) (by decide)) (fun _ M' k => endF M' (1, p) k)))
theorem isStop_iff (i : Nat) : (mtk n t i = 3 ∧ mvl n t i = 59) ↔ tk n t i = 3 := by
  unfold mtk mvl tk tkc
  (repeat' split) <;> omega
theorem jr_isStop {s : Nat → Int32} (h1 : jMM m ad M0 (va_up S.1 1 d, S.2.1, s, S.2.2.2) M) {p : Nat} (h3 : jSt n t s (.inr p)) (ht : ∀ i, i < n → t i < 256) : (jf_X1_isStop N m).1 M = some (bI (tk n t p = 3), M) := by
  obtain ⟨g12, g8, g9, g10, g11, gp⟩ := h3
  have hm := mtk_le (n := n) (t := t) p
  have hv : -1 ≤ mvl n t p ∧ mvl n t p < 256 := by
    unfold mvl
    split
    · rename_i c; have := ht p c; omega
    · omega
  refine jo_out ?_
  unfold jf_X1_isStop
  refine jo_rd (jM_fI h1 (k := 10) rfl) ?_
  have iff := isStop_iff (n := n) (t := t) p
  by_cases c : mtk n t p = 3
  · refine jo_t (show s 10 = nI 3 by rw [g10, c]) (jo_rd (jM_fI h1 (k := 11) rfl) ?_)
    by_cases c2 : mvl n t p = 59
    · exact jo_t (show s 11 = iI 59 by rw [g11, c2]) (jo_ret ⟨(bI_t (iff.mp ⟨c, c2⟩)).symm, rfl⟩)
    · exact jo_f (show ¬ s 11 = iI 59 by rw [g11, iI_eqI (by omega) (by omega)]; exact c2) (jo_ret ⟨(bI_f (fun x => c2 (iff.mpr x).2)).symm, rfl⟩)
  · exact jo_f (show ¬ s 10 = nI 3 by rw [g10, nI_eq (by omega) (by omega)]; exact c) (jo_ret ⟨(bI_f (fun x => c (iff.mpr x).1)).symm, rfl⟩)
def uStop (n : Nat) (t : Nat → Nat) (u : PE ⊕ Nat) : PE ⊕ Nat := match u with
  | .inl e => .inl e
  | .inr p => if tk n t p = 3 then .inr (p + 1) else .inl (1, p)
theorem jm_stop (hT : jTp S n t) {u : PE ⊕ Nat} (h : jPM m ad M0 S n t d u M) : jo (jf_X1_stop N m) M (fun _ M' => jPM m ad M0 S n t d (uStop n t u) M') := by
  have h0 := h
  obtain ⟨s, h1, h2, h3⟩ := h
  unfold jf_X1_stop jf_X1_stop_j12
  refine jo_rd (jM_cl h1) ?_
  cases u with
  | inl e =>
    have endF : ∀ M1, jPM m ad M0 S n t d (.inl e) M1 → jo (jm_rd (jm_cl 1 (some m)) fun a5 => jm_bd (jf_X1_goesOn N a5) fun _ => jm_ret ()) M1 (fun _ M' => jPM m ad M0 S n t d (.inl e) M') := by
      intro M1 k
      have k0 := k
      obtain ⟨s1, q1, q2, q3⟩ := k
      exact jo_rd (jM_cl q1) (jo_bd (jo_mono (jm_goesOn hT k0) (fun _ M' k => jo_ret k)))
    show jo _ _ (fun _ M' => jPM m ad M0 S n t d (.inl e) M')
    have tot : ∃ r, (jf_X1_isStop N m).1 M = some (r, M) := by
      unfold jf_X1_isStop
      by_cases c : s 10 = (3 : Int32)
      · by_cases c2 : s 11 = (59 : Int32)
        · exact ⟨1, jo_out (jo_rd (jM_fI h1 (k := 10) rfl) (jo_t c (jo_rd (jM_fI h1 (k := 11) rfl) (jo_t c2 (jo_ret ⟨rfl, rfl⟩)))))⟩
        · exact ⟨0, jo_out (jo_rd (jM_fI h1 (k := 10) rfl) (jo_t c (jo_rd (jM_fI h1 (k := 11) rfl) (jo_f c2 (jo_ret ⟨rfl, rfl⟩)))))⟩
      · exact ⟨0, jo_out (jo_rd (jM_fI h1 (k := 10) rfl) (jo_f c (jo_ret ⟨rfl, rfl⟩)))⟩
    obtain ⟨r, hr⟩ := tot
    refine jo_eq hr ?_
    by_cases c : r = 0
    · exact jo_t c (jo_rd (jM_cl h1) (jo_bd (jo_mono (jmp_bad h0 (k := 1) (by decide)) (fun _ M' k => endF M' k))))
    · exact jo_f c (endF M h0)
  | inr p =>
    refine jo_eq (jr_isStop h1 h3 (fun i hi => (hT.2.2 i hi).2)) ?_
    show jo _ _ (fun _ M' => jPM m ad M0 S n t d (if tk n t p = 3 then .inr (p + 1) else .inl (1, p)) M')
    refine jo_bI (fun c => ?_) (fun c => ?_)
    · rw [if_neg c]
      refine jo_rd (jM_cl h1) (jo_bd (jo_mono (jmp_bad h0 (k := 1) (by decide)) (fun _ M' k => ?_)))
      have k0 := k
      obtain ⟨s1, q1, q2, q3⟩ := k
      exact jo_rd (jM_cl q1) (jo_bd (jo_mono (jm_goesOn hT k0) (fun _ M' k => jo_ret k)))
    · rw [if_pos c]
      have cn : p < n := by
        refine Classical.byContradiction fun x => ?_
        unfold tk at c
        rw [if_neg x] at c
        omega
      refine jo_rd (jM_cl h1) (jo_bd (jo_mono (jm_goesOn hT h0) (fun _ M' k => jo_ret ?_)))
      have k : jPM m ad M0 S n t d (.inr (if p < n then p + 1 else p)) M' := k
      rw [if_pos cn] at k
      exact k
theorem jr_isLetter (hT : jTp S n t) {u : PE ⊕ Nat} (h : jPM m ad M0 S n t d u M) {c : Nat} (hc : (97 ≤ c ∧ c ≤ 122)) : (jf_X1_isLetter N m (nI c)).1 M = some (bI (match u with
    | .inl _ => false
    | .inr p => decide (p < n ∧ t p = c) : Bool), M) := by
  obtain ⟨s, h1, h2, h3⟩ := h
  refine jo_out ?_
  unfold jf_X1_isLetter
  refine jo_rd (jM_fI h1 (k := 12) rfl) ?_
  cases u with
  | inl e =>
    obtain ⟨g12, g13, g14, g15, g16⟩ := h3
    exact jo_f (show ¬ s 12 = nI 0 by rw [g12, nI_eq (by omega) (by omega)]; omega) (jo_ret ⟨rfl, rfl⟩)
  | inr p =>
    obtain ⟨g12, g8, g9, g10, g11, gp⟩ := h3
    have hm := mtk_le (n := n) (t := t) p
    refine jo_t (show s 12 = nI 0 from g12) (jo_rd (jM_fI h1 (k := 10) rfl) ?_)
    show jo _ _ (fun r M' => r = bI (decide (p < n ∧ t p = c) = true) ∧ M' = M)
    by_cases a1 : mtk n t p = 1
    · have cn : p < n := by
        refine Classical.byContradiction fun x => ?_
        unfold mtk at a1
        rw [if_neg x] at a1
        omega
      have := (hT.2.2 p cn).2
      have hv : mvl n t p = (t p : Int) := if_pos cn
      refine jo_t (show s 10 = nI 1 by rw [g10, a1]) (jo_rd (jM_fI h1 (k := 11) rfl) ?_)
      by_cases a2 : t p = c
      · exact jo_t (show s 11 = nI c by rw [g11, hv, a2, nI_iI]) (jo_ret ⟨(bI_t (by simp [cn, a2])).symm, rfl⟩)
      · exact jo_f (show ¬ s 11 = nI c by rw [g11, hv, nI_iI, iI_eqI (by omega) (by omega)]; omega) (jo_ret ⟨(bI_f (by simp [a2])).symm, rfl⟩)
    · refine jo_f (show ¬ s 10 = nI 1 by rw [g10, nI_eq (by omega) (by omega)]; exact a1) (jo_ret ⟨(bI_f ?_).symm, rfl⟩)
      simp only [decide_eq_true_eq]
      rintro ⟨x1, x2⟩
      refine a1 ?_
      unfold mtk tkc
      rw [if_pos x1, if_neg (by omega), if_pos (by omega)]
end PA
