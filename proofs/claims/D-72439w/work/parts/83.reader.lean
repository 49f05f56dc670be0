/-! PLAIN LAW, 83: the component's reader: look, token, must, letter, digit, stop -/
def jRq (tp n i : Nat) : CE := .inr (2, [.ref tp, .int (nI n), .int (nI i)])
def jRt (tp n : Nat) (t : Nat → Nat) (H : HM) : Prop := ∃ tf, H tp = some (aI 1 90 tf) ∧ n ≤ 90 ∧ ∀ j, j < n → tf j = tB (t j) ∧ t j < 256
/-- all cells but q's stand -/
def jSq (q : Nat) (H H' : HM) : Prop := ∀ a e, a ≠ q → H a = some e → H' a = some e
theorem jSq.rf {q : Nat} {H : HM} : jSq q H H := fun _ _ _ h => h
theorem jSq.tr {q : Nat} {A B C : HM} (h : jSq q A B) (k : jSq q B C) : jSq q A C := fun a e n h1 => k a e n (h a e n h1)
theorem jSub.sq {q : Nat} {H H' : HM} (h : jSub H H') : jSq q H H' := fun a e _ h1 => h a e h1
theorem jSq.up {q : Nat} {H : HM} {v : Option CE} : jSq q H (va_up H q v) := fun a e n h1 => by rw [va_up_ne _ _ n]; exact h1
theorem jSq.sub {q : Nat} {H0 H H' : HM} (h0 : jSub H0 H) (hn : H0 q = none) (h : jSq q H H') : jSub H0 H' := fun a e h1 => h a e (fun x => by rw [x, hn] at h1; cases h1) (h0 a e h1)
theorem jRt.sq {q tp n i : Nat} {t : Nat → Nat} {H H' : HM} (h : jRt tp n t H) (hq : H q = some (jRq tp n i)) (k : jSq q H H') : jRt tp n t H' := by
  obtain ⟨tf, h1, h2, h3⟩ := h
  exact ⟨tf, k _ _ (fun e => by rw [e, hq] at h1; cases h1) h1, h2, h3⟩
theorem jRt.sub {tp n : Nat} {t : Nat → Nat} {H H' : HM} (h : jRt tp n t H) (k : jSub H H') : jRt tp n t H' := by
  obtain ⟨tf, h1, h2, h3⟩ := h
  exact ⟨tf, k _ _ h1, h2, h3⟩
def jFt (qf k i : Nat) (H : HM) : Prop := ∃ vs, H qf = some (.inr (3, .int (nI k) :: .int (nI i) :: vs))
theorem tB_and : ∀ c, c < 256 → tB c &&& 255 = nI c := by decide +kernel
theorem jo_flt {β : Type} {md : Nat → Bool} {M : Mem} {Q : β → Mem → Prop} {qf k i : Nat} {p : Unit → jm_P β} (h : jFt qf k i (jMk md M.2.2)) (hh : jo (p ()) M Q) : jo (jm_rd (jm_flt qf) p) M Q := by
  obtain ⟨vs, h⟩ := h
  exact jo_rd (x := ()) (by unfold jm_flt; simp only [(mkg h).2]; rfl) hh
/-- what stands behind a call that may throw -/
def jbk {α β : Type} (tt : Nat → jm_P β) (kk : α → jm_P β) (Q : β → Mem → Prop) (x : α ⊕ Nat) (M1 : Mem) : Prop := match x with
  | .inl v => jo (kk v) M1 Q
  | .inr q => jo (jm_rd (jm_flt q) fun _ => tt q) M1 Q
theorem jo_bx {α β : Type} {f : jm_P (α ⊕ Nat)} {tt : Nat → jm_P β} {kk : α → jm_P β} {Q : β → Mem → Prop} {M : Mem} (h : jo f M (jbk tt kk Q)) : jo (jm_bx f tt kk) M Q := by
  unfold jm_bx
  refine jo_bd (jo_mono h ?_)
  intro x M1 hx
  cases x with
  | inl v => exact hx
  | inr q => exact hx
section RD
variable {β : Type} {N q tp n i : Nat} {t : Nat → Nat} {M : Mem}
theorem jx_look (hq : M.2.2 q = some (jRq tp n i)) (ht : jRt tp n t M.2.2) (hi : i ≤ 100) : (jf_X2_look N q).1 M = some (if i < n then nI (t i) else iI (-1000000), M) := by
  obtain ⟨tf, h2, h3, h4⟩ := ht
  refine jo_out ?_
  unfold jf_X2_look
  refine jo_fI hq (by decide) rfl (jo_fI hq (by decide) rfl ?_)
  by_cases c : i < n
  · rw [if_pos c]
    refine jo_f (by rw [nI_leI (by omega) (by omega)]; omega) (jo_fR hq (by decide) rfl (jo_fI hq (by decide) rfl (jo_ldI h2 rfl (by omega) (by decide) (jo_ret ⟨?_, rfl⟩))))
    rw [(h4 i c).1]
    exact tB_and _ (h4 i c).2
  · rw [if_neg c]
    exact jo_t (by rw [nI_leI (by omega) (by omega)]; omega) (jo_ret ⟨rfl, rfl⟩)
theorem jx_token (hq : M.2.2 q = some (jRq tp n i)) (ht : jRt tp n t M.2.2) (hi : i ≤ 100) : (jf_X2_token N q).1 M = some (nI (tk n t i), M) := by
  refine jo_out ?_
  unfold jf_X2_token jf_X2_token_j43
  refine jo_cl hq (jo_eq (jx_look hq ht hi) ?_)
  by_cases c : i < n
  · have h256 : t i < 256 := by obtain ⟨tf, h2, h3, h4⟩ := ht; exact (h4 i c).2
    have e : tk n t i = tkc (t i) := if_pos c
    rw [if_pos c, e]
    have hi : (nI (t i)).toInt = (t i : Int) := nI_toInt (by omega)
    refine jo_f (show ¬ nI (t i) = iI (-1000000) by rw [nI_iI, iI_eqI (by omega) (by omega)]; omega) ?_
    refine jo_eq (in32X (a := 97) (b := 122) rfl rfl) ?_
    rw [hi]
    refine jo_bI (fun a1 => ?_) (fun a1 => jo_ret ⟨?_, rfl⟩)
    · refine jo_eq (in32X (a := 65) (b := 90) rfl rfl) ?_
      rw [hi]
      refine jo_bI (fun a2 => ?_) (fun a2 => jo_ret ⟨?_, rfl⟩)
      · refine jo_eq (in32X (a := 48) (b := 57) rfl rfl) ?_
        rw [hi]
        refine jo_bI (fun a3 => ?_) (fun a3 => jo_ret ⟨?_, rfl⟩)
        · by_cases a5 : t i = 59
          · refine jo_t (by rw [a5]; rfl) (jo_ret ⟨?_, rfl⟩)
            rw [a5]; rfl
          · refine jo_f (show ¬ nI (t i) = nI 59 by rw [nI_eq (by omega) (by omega)]; exact a5) (jo_ret ⟨?_, rfl⟩)
            unfold tkc; rw [if_neg (by omega), if_neg (by omega), if_neg a5]; rfl
        · unfold tkc; rw [if_neg (by omega), if_pos (by omega)]; rfl
      · unfold tkc; rw [if_pos (by omega)]; rfl
    · unfold tkc; rw [if_pos (by omega)]; rfl
  · have e : tk n t i = 0 := if_neg c
    rw [if_neg c, e]
    exact jo_t (by decide +kernel) (jo_ret ⟨rfl, rfl⟩)
theorem jx_edgeOf {e : Nat} (h : e < 256) : (jf_X2_edgeOf N (nI e)).1 M = some (if 97 ≤ e ∧ e ≤ 122 then iI ((e : Int) - 97) else iI (64 - (e : Int)), M) := by
  refine jo_out ?_
  unfold jf_X2_edgeOf
  refine jo_eq (in32X (a := 97) (b := 122) rfl rfl) ?_
  rw [nI_toInt (by omega)]
  refine jo_bI (fun a1 => ?_) (fun a1 => ?_)
  · rw [if_neg (by omega), nI_iI, show (64 : Int32) = iI 64 from rfl, iI_sub]
    exact jo_ret ⟨rfl, rfl⟩
  · rw [if_pos (by omega), nI_iI, show (97 : Int32) = iI 97 from rfl, iI_sub]
    exact jo_ret ⟨rfl, rfl⟩
variable {Q : β → Mem → Prop} {md : Nat → Bool} {c s : Nat} {M0 : Mem} {tt : Nat → jm_P β}
/-- what a throw leaves -/
def jTh (md : Nat → Bool) (c s : Nat) (M0 : Mem) (q : Nat) (M : Mem) (e : PE) (qf : Nat) (M' : Mem) : Prop := jFt qf e.1 e.2 (jMk md M'.2.2) ∧ jSq q (jMk md M.2.2) (jMk md M'.2.2) ∧ jExt md c s M0 M'
/-- the reader stands at i' -/
def jOk (md : Nat → Bool) (c s : Nat) (M0 : Mem) (q tp n : Nat) (M : Mem) (i' : Nat) (M' : Mem) : Prop := jMk md M'.2.2 q = some (jRq tp n i') ∧ jSq q (jMk md M.2.2) (jMk md M'.2.2) ∧ jExt md c s M0 M'
theorem jX_must {kk : Unit → jm_P β} (hM : ∀ a, md a = true → a < M0.1) (hE : jExt md c s M0 M) (hq : jMk md M.2.2 q = some (jRq tp n i)) {v : Int32} (k : Nat) (hf : v = 0 → ∀ qf M1, jTh md (c + 1) (s + 8) M0 q M (k, i) qf M1 → jo (tt qf) M1 Q) (hk : v ≠ 0 → jo (kk ()) M Q) : jo (jm_bx (jf_X2_must N q v (nI k)) tt kk) M Q := by
  refine jo_bx ?_
  unfold jf_X2_must
  by_cases c0 : v = 0
  · refine jo_t c0 (jX_al (hE.md hM) hE fun qf M1 hn _ e1 E1 => ?_)
    have s1 : jSub (jMk md M.2.2) (jMk md M1.2.2) := by rw [e1]; exact jSub.new hn
    refine jo_fI (mkg (s1 _ _ hq)).2 (by decide) rfl (jo_bd ?_)
    unfold jf_X3_init
    refine jX_put (by rw [e1, va_up_self]) (by decide) (by decide) E1 (fun M2 e2 E2 => ?_)
    refine jX_put (by rw [e2, va_up_self]) (by decide) (by simp [jm_fz]) E2 (fun M3 e3 E3 => jo_ret (jo_ret ?_))
    have o3 : jFt qf k i (jMk md M3.2.2) := ⟨_, by rw [e3, va_up_self]; rfl⟩
    show jo (jm_rd (jm_flt qf) fun _ => tt qf) M3 Q
    refine jo_flt o3 (hf c0 qf M3 ⟨o3, ?_, E3⟩)
    rw [e3, e2, e1, va_up2, va_up2]
    exact (jSub.new hn).sq
  · exact jo_f c0 (jo_ret (hk c0))
theorem jX_at {p : jm_P β} (hq : jMk md M.2.2 q = some (jRq tp n i)) (hE : jExt md c s M0 M) (kk : ∀ M1, jOk md c s M0 q tp n M (i + 1) M1 → jo p M1 Q) : jo (jm_rd (jm_fI [2] 2 (some q)) fun x => jm_wr (jm_put [2] 2 (.int (x + (1 : Int32))) (some q)) p) M Q := by
  refine jo_fI (mkg hq).2 (by decide) rfl (jX_put hq (by decide) (by simp) hE (fun M1 e1 E1 => kk M1 ⟨?_, ?_, E1⟩))
  · rw [e1, va_up_self, nI_1]; rfl
  · rw [e1]; exact jSq.up
theorem jX_letter {kk : Unit → jm_P β} (hM : ∀ a, md a = true → a < M0.1) (hE : jExt md c s M0 M) (hq : jMk md M.2.2 q = some (jRq tp n i)) (ht : jRt tp n t (jMk md M.2.2)) (hi : i ≤ 100) {x : Nat} (hx : x < 256) (hf : ¬ (i < n ∧ t i = x) → ∀ qf M1, jTh md (c + 1) (s + 8) M0 q M (1, i) qf M1 → jo (tt qf) M1 Q) (hk : i < n ∧ t i = x → ∀ M1, jOk md c s M0 q tp n M (i + 1) M1 → jo (kk ()) M1 Q) : jo (jm_bx (jf_X2_letter N q (nI x)) tt kk) M Q := by
  refine jo_bx ?_
  have ht' := ht.sub jMk.sub
  unfold jf_X2_letter
  refine jo_cl (mkg hq).2 (jo_eq (jx_look (mkg hq).2 ht' hi) ?_)
  have fin : ∀ v : Int32, (v = 0 ↔ ¬ (i < n ∧ t i = x)) → jo (jf_X2_letter_j14 N q (some q) v) M (jbk tt kk Q) := by
    intro v hv
    unfold jf_X2_letter_j14
    refine jo_cl (mkg hq).2 (jX_must hM hE hq 1 (fun z qf M1 h1 => jo_ret (jo_flt h1.1 (hf (hv.mp z) qf M1 h1))) (fun z => jX_at hq hE (fun M1 h1 => jo_ret (hk (Classical.byContradiction fun y => z (hv.mpr y)) M1 h1))))
  by_cases c1 : i < n
  · have h256 : t i < 256 := by obtain ⟨tf, h2, h3, h4⟩ := ht; exact (h4 i c1).2
    rw [if_pos c1]
    by_cases c2 : t i = x
    · exact jo_t (by rw [c2]) (fin 1 ⟨fun y => absurd y (by decide), fun y => absurd ⟨c1, c2⟩ y⟩)
    · exact jo_f (by rw [nI_eq (by omega) (by omega)]; exact c2) (fin 0 ⟨fun _ y => c2 y.2, fun _ => rfl⟩)
  · rw [if_neg c1]
    exact jo_f (by rw [nI_iI, iI_eqI (by omega) (by omega)]; omega) (fin 0 ⟨fun _ y => c1 y.1, fun _ => rfl⟩)
theorem jX_stop {kk : Unit → jm_P β} (hM : ∀ a, md a = true → a < M0.1) (hE : jExt md c s M0 M) (hq : jMk md M.2.2 q = some (jRq tp n i)) (ht : jRt tp n t (jMk md M.2.2)) (hi : i ≤ 100) (hf : tk n t i ≠ 3 → ∀ qf M1, jTh md (c + 1) (s + 8) M0 q M (1, i) qf M1 → jo (tt qf) M1 Q) (hk : tk n t i = 3 → ∀ M1, jOk md c s M0 q tp n M (i + 1) M1 → jo (kk ()) M1 Q) : jo (jm_bx (jf_X2_stop N q) tt kk) M Q := by
  refine jo_bx ?_
  have ht' := ht.sub jMk.sub
  unfold jf_X2_stop
  refine jo_cl (mkg hq).2 (jo_eq (jx_token (mkg hq).2 ht' hi) ?_)
  have fin : ∀ v : Int32, (v = 0 ↔ ¬ (tk n t i = 3)) → jo (jf_X2_stop_j14 N q (some q) v) M (jbk tt kk Q) := by
    intro v hv
    unfold jf_X2_stop_j14
    refine jo_cl (mkg hq).2 (jX_must hM hE hq 1 (fun z qf M1 h1 => jo_ret (jo_flt h1.1 (hf (hv.mp z) qf M1 h1))) (fun z => jX_at hq hE (fun M1 h1 => jo_ret (hk (Classical.byContradiction fun y => z (hv.mpr y)) M1 h1))))
  have hle : tk n t i ≤ 4 := by unfold tk; split; exact (tkc_le _).1; omega
  by_cases c1 : tk n t i = 3
  · exact jo_t (by rw [c1]; rfl) (fin 1 ⟨fun y => absurd y (by decide), fun y => absurd c1 y⟩)
  · exact jo_f (show ¬ nI (tk n t i) = nI 3 by rw [nI_eq (by omega) (by omega)]; exact c1) (fin 0 ⟨fun _ => c1, fun _ => rfl⟩)
theorem jX_digit {kk : Int32 → jm_P β} (hM : ∀ a, md a = true → a < M0.1) (hE : jExt md c s M0 M) (hq : jMk md M.2.2 q = some (jRq tp n i)) (ht : jRt tp n t (jMk md M.2.2)) (hi : i ≤ 100) {lo hi' : Nat} {vl vh : Int32} (hl : vl = nI lo) (hh : vh = iI ((hi' : Int) - 1)) (hlo : lo < 10) (hhi : hi' < 10) (hf : ∀ e, pDigit n t lo hi' i = .inl e → ∀ qf M1, jTh md (c + 1) (s + 8) M0 q M e qf M1 → jo (tt qf) M1 Q) (hk : ∀ v, pDigit n t lo hi' i = .inr v → ∀ M1, jOk md c s M0 q tp n M (i + 1) M1 → jo (kk (nI v)) M1 Q) : jo (jm_bx (jf_X2_digit N q vl vh) tt kk) M Q := by
  refine jo_bx ?_
  have ht' := ht.sub jMk.sub
  unfold jf_X2_digit
  refine jo_cl (mkg hq).2 (jo_eq (jx_token (mkg hq).2 ht' hi) ?_)
  have hle : tk n t i ≤ 4 := by unfold tk; split; exact (tkc_le _).1; omega
  by_cases c1 : tk n t i = 2
  · refine jo_t (by rw [c1]; rfl) ?_
    unfold jf_X2_digit_j14
    refine jo_cl (mkg hq).2 (jX_must hM hE hq 1 (fun z => absurd z (by decide)) (fun _ => ?_))
    refine jo_cl (mkg hq).2 (jo_eq (jx_look (mkg hq).2 ht' hi) ?_)
    have cn : i < n := by unfold tk at c1; split at c1; assumption; cases c1
    have cd : 48 ≤ t i ∧ t i ≤ 57 := by
      unfold tk at c1; rw [if_pos cn] at c1; unfold tkc at c1
      split at c1
      · cases c1
      · split at c1
        · assumption
        · split at c1 <;> cases c1
    rw [if_pos cn]
    have e48 : nI (t i) - 48 = nI (t i - 48) := by rw [show (48 : Int32) = nI 48 from rfl, nI_sub cd.1]
    rw [e48]
    refine jo_eq (in32X (a := lo) (b := (hi' : Int) - 1) ?_ ?_) ?_
    · rw [hl, Int32.toInt_toInt64, nI_toInt (by omega)]
    · rw [hh, Int32.toInt_toInt64, iI_toInt (by omega) (by omega)]
    rw [nI_toInt (by omega)]
    refine jo_cl (mkg hq).2 ?_
    refine jX_must hM hE hq 2 (fun z qf M1 h1 => jo_ret (jo_flt h1.1 (hf _ ?_ qf M1 h1))) (fun z => jX_at hq hE (fun M1 h1 => jo_ret (hk _ ?_ M1 h1)))
    · rw [bI_0] at z
      unfold pDigit
      rw [if_neg (by rw [c1]; decide), if_pos (by omega)]
    · rw [ne_eq, bI_0, Classical.not_not] at z
      unfold pDigit
      rw [if_neg (by rw [c1]; decide), if_neg (by omega)]
  · refine jo_f (show ¬ nI (tk n t i) = nI 2 by rw [nI_eq (by omega) (by omega)]; exact c1) ?_
    unfold jf_X2_digit_j14
    refine jo_cl (mkg hq).2 (jX_must hM hE hq 1 (fun z qf M1 h1 => jo_ret (jo_flt h1.1 (hf _ ?_ qf M1 h1))) (fun z => absurd rfl z))
    unfold pDigit
    rw [if_pos c1]
end RD
