/-! PLAIN LAW, 93.i: a clear: component -/
def rowP (F : Nat → Nat → Int) (k : Nat) : Nat → Nat → Int := fun i j => if k < i then F i j - (F i k).tdiv (F k k) * F k j else F i j
def colP (F : Nat → Nat → Int) (k K' : Nat) : Nat → Nat → Int := fun i j => if k < j ∧ j < K' then F i j - (F k j).tdiv (F k k) * F i k else F i j
def clrd (F : Nat → Nat → Int) (R K' k : Nat) : Prop := (∀ i, k < i → i < R → rowP F k i k = 0) ∧ ∀ j, k < j → j < K' → colP (rowP F k) k K' k j = 0
theorem tdiv_rest {a p : Int} : a - a.tdiv p * p = a.tmod p := by
  have := Int.tmod_def a p
  rw [Int.mul_comm] at this
  exact this.symm
theorem tmod_lt' {a p : Int} (h : p ≠ 0) : (a.tmod p).natAbs < p.natAbs := by
  rw [Int.natAbs_tmod]
  exact Nat.mod_lt _ (Int.natAbs_pos.mpr h)
theorem rowP_k {F : Nat → Nat → Int} {k i : Nat} (h : k < i) : rowP F k i k = (F i k).tmod (F k k) := by unfold rowP; rw [if_pos h, tdiv_rest]
theorem rowP_row {F : Nat → Nat → Int} {k j : Nat} : rowP F k k j = F k j := by unfold rowP; rw [if_neg (Nat.lt_irrefl k)]
theorem colP_k {F : Nat → Nat → Int} {k K' j : Nat} (h : k < j) (hj : j < K') : colP (rowP F k) k K' k j = (F k j).tmod (F k k) := by
  unfold colP
  rw [if_pos ⟨h, hj⟩, rowP_row, rowP_row, tdiv_rest]
section CL
variable {β : Type} {Q : β → Mem → Prop} {md : Nat → Bool} {N c s t ar R K' : Nat} {M0 M : Mem} {F : Nat → Nat → Int} {rr : Nat → Nat} {rf : Nat → Option Nat} {H0 : HM}
theorem bI_and {p q : Prop} [Decidable p] [Decidable q] : bI p &&& bI q = bI (p ∧ q) := by
  by_cases hp : p <;> by_cases hq : q <;> simp [bI, hp, hq]
theorem jx_clear (hE : jExt md c s M0 M) (h : jTn t ar R (K' + 1) rr rf F H0 (jMk md M.2.2)) (hR : R ≤ 50) (hK : K' ≤ 50) (hN : 100 < N) {k : Nat} (hkR : k < R) (hkK : k < K') (h0 : F k k ≠ 0) (hr : ∀ i j, inn R K' k i j → (F i j).natAbs < 9223372036854775808) :
    jo (jf_X11_clear N t (nI k)) M (fun r M' => ((r = 1 ∧ clrd F R K' k) ∨ (r = 0 ∧ ¬ clrd F R K' k)) ∧ jTn t ar R (K' + 1) rr rf (colP (rowP F k) k K') H0 (jMk md M'.2.2) ∧ jExt md c s M0 M') := by
  have rgk := hr k k ⟨Nat.le_refl _, hkR, Nat.le_refl _, hkK⟩
  have e1 : nI k + (1 : Int32) = nI (k + 1) := nI_1 k
  unfold jf_X11_clear
  rw [e1]
  refine jo_bd (jo_mono (jo_up R (fun i z M' => k < i ∧ (∃ b : Prop, ∃ _ : Decidable b, z = (bI b, nI i) ∧ (b ↔ ∀ x, k < x → x < i → rowP F k x k = 0)) ∧ jTn t ar R (K' + 1) rr rf (fun x y => if x < i then rowP F k x y else F x y) H0 (jMk md M'.2.2) ∧ jExt md c s M0 M') (fun r M' => (∃ b : Prop, ∃ _ : Decidable b, r = bI b ∧ (b ↔ ∀ x, k < x → x < R → rowP F k x k = 0)) ∧ jTn t ar R (K' + 1) rr rf (rowP F k) H0 (jMk md M'.2.2) ∧ jExt md c s M0 M') ?_ ?_ N (k + 1) _ M ⟨by omega, ⟨True, .isTrue trivial, rfl, ⟨fun _ x a b => by omega, fun _ => trivial⟩⟩, h.cg (fun x y _ _ => ?_), hE⟩ hkR (by omega)) ?_)
  · rintro i z M' hi ⟨ki, ⟨b, db, rfl, hb⟩, h', E'⟩
    have rgi := hr i k ⟨by omega, hi, Nat.le_refl _, hkK⟩
    unfold jf_X11_clear_L6
    refine jN_R h'.md (jo_f (by rw [nI_leI (by omega) (by omega)]; omega) ?_)
    refine jN_at h'.md (jN_row h'.md rfl hi (by omega) (jN_ld h'.md rfl hi (by omega) (by omega) (jN_at h'.md (jN_row h'.md rfl hkR (by omega) (jN_ld h'.md rfl hkR (by omega) (by omega) ?_)))))
    rw [if_neg (Nat.lt_irrefl i), if_pos ki, rowP_row]
    refine jo_ck (by rw [jI_0 (by omega)]; exact h0) ?_
    rw [jI_tdv (by omega) (by omega)]
    -- one row
    refine jo_bd (jo_mono (jo_up (K' + 1) (fun q z M1 => z = nI q ∧ jTn t ar R (K' + 1) rr rf (fun x y => if x < i then rowP F k x y else if x = i ∧ y < q then rowP F k x y else F x y) H0 (jMk md M1.2.2) ∧ jExt md c s M0 M1) (fun _ M1 => jTn t ar R (K' + 1) rr rf (fun x y => if x < i + 1 then rowP F k x y else F x y) H0 (jMk md M1.2.2) ∧ jExt md c s M0 M1) ?_ ?_ N 0 _ M' ⟨rfl, h'.cg (fun x y _ _ => ?_), E'⟩ (Nat.zero_le _) (by omega)) ?_)
    · rintro q z M1 hq ⟨rfl, h1, E1⟩
      unfold jf_X11_clear_L36
      refine jN_K h1.md (jo_f (by rw [nI_leI (by omega) (by omega)]; omega) ?_)
      refine jN_at h1.md (jN_row h1.md rfl hi (by omega) (jN_ld h1.md rfl hi hq (by omega) (jN_at h1.md (jN_row h1.md rfl hkR (by omega) (jN_ld h1.md rfl hkR hq (by omega) ?_)))))
      rw [if_neg (Nat.lt_irrefl i), if_neg (fun y => Nat.lt_irrefl q y.2), if_pos ki, rowP_row, jI_mul, jI_sub]
      refine jT_st h1 rfl hi hq (by omega) E1 rfl (fun M2 h2 E2 => jo_ret ⟨by rw [nI_1], h2.cg (fun x y _ _ => ?_), E2⟩)
      unfold uTb
      dsimp only
      by_cases cc : x = i ∧ y = q
      · obtain ⟨rfl, rfl⟩ := cc
        rw [if_pos ⟨rfl, rfl⟩, if_neg (Nat.lt_irrefl x), if_pos ⟨rfl, by omega⟩]
        unfold rowP
        rw [if_pos ki]
      · rw [if_neg cc]
        by_cases c1 : x < i
        · rw [if_pos c1, if_pos c1]
        · rw [if_neg c1, if_neg c1]
          by_cases c2 : x = i ∧ y < q
          · rw [if_pos c2, if_pos (by omega)]
          · rw [if_neg c2, if_neg (by omega)]
    · rintro z M1 ⟨rfl, h1, E1⟩
      unfold jf_X11_clear_L36
      refine jN_K h1.md (jo_t (by rw [nI_leI (by omega) (by omega)]; omega) (jo_ret ⟨h1.cg (fun x y _ hy => ?_), E1⟩))
      by_cases c1 : x < i
      · rw [if_pos c1, if_pos (by omega)]
      · rw [if_neg c1]
        by_cases c2 : x = i
        · rw [if_pos ⟨c2, hy⟩, if_pos (by omega)]
        · rw [if_neg (fun y => c2 y.1), if_neg (by omega)]
    · by_cases c1 : x < i
      · rw [if_pos c1, if_pos c1]
      · rw [if_neg c1, if_neg c1, if_neg (by omega)]
    · rintro _ M1 ⟨h1, E1⟩
      unfold jf_X11_clear_k36_75 jf_X11_clear_j94
      refine jN_at h1.md (jN_row h1.md rfl hi (by omega) (jN_ld h1.md rfl hi (by omega) (by omega) ?_))
      rw [if_pos (show i < i + 1 by omega)]
      have rz : (rowP F k i k).natAbs < 9223372036854775808 := by rw [rowP_k ki]; have := tmod_lt' (a := F i k) h0; omega
      have nx : ∀ (b' : Prop) [Decidable b'], (b' ↔ rowP F k i k = 0) → jo (jm_ret (.inl (bI b &&& bI b', nI i + 1)) : jm_P ((Int32 × Int32) ⊕ Int32)) M1 (fun x M2 => ∃ z, x = .inl z ∧ (k < i + 1 ∧ (∃ b : Prop, ∃ _ : Decidable b, z = (bI b, nI (i + 1)) ∧ (b ↔ ∀ x, k < x → x < i + 1 → rowP F k x k = 0)) ∧ jTn t ar R (K' + 1) rr rf (fun x y => if x < i + 1 then rowP F k x y else F x y) H0 (jMk md M2.2.2) ∧ jExt md c s M0 M2)) := by
        intro b' db' hb'
        refine jo_ret ⟨_, rfl, by omega, ⟨b ∧ b', inferInstance, by rw [bI_and, nI_1], ?_⟩, h1, E1⟩
        rw [hb, hb']
        constructor
        · rintro ⟨q1, q2⟩ x a b
          by_cases e : x = i
          · rw [e]; exact q2
          · exact q1 x a (by omega)
        · intro q
          exact ⟨fun x a b => q x a (by omega), q i ki (by omega)⟩
      by_cases z0 : rowP F k i k = 0
      · refine jo_t (by rw [z0]; rfl) (jo_mono (nx True ⟨fun _ => z0, fun _ => trivial⟩) ?_)
        rintro x M2 ⟨z, rfl, hz⟩
        exact hz
      · refine jo_f (by rw [jI_0 (by omega)]; exact z0) (jo_mono (nx False ⟨fun q => q.elim, fun q => z0 q⟩) ?_)
        rintro x M2 ⟨z, rfl, hz⟩
        exact hz
  · rintro z M' ⟨ki, ⟨b, db, rfl, hb⟩, h', E'⟩
    unfold jf_X11_clear_L6
    exact jN_R h'.md (jo_t (by rw [nI_leI (by omega) (by omega)]; omega) (jo_ret ⟨⟨b, db, rfl, hb⟩, h'.cg (fun x y hx _ => by rw [if_pos hx]), E'⟩))
  · by_cases c1 : x < k + 1
    · rw [if_pos c1]; unfold rowP; rw [if_neg (by omega)]
    · rw [if_neg c1]
  · rintro r M1 ⟨⟨b, db, rfl, hb⟩, h1, E1⟩
    unfold jf_X11_clear_k6_102
    rw [e1]
    have g0 : rowP F k k k = F k k := rowP_row
    refine jo_bd (jo_mono (jo_up K' (fun j z M' => k < j ∧ (∃ b' : Prop, ∃ _ : Decidable b', z = (bI b', nI j) ∧ (b' ↔ b ∧ ∀ y, k < y → y < j → colP (rowP F k) k K' k y = 0)) ∧ jTn t ar R (K' + 1) rr rf (fun x y => if y < j then colP (rowP F k) k K' x y else rowP F k x y) H0 (jMk md M'.2.2) ∧ jExt md c s M0 M') (fun r M' => (∃ b' : Prop, ∃ _ : Decidable b', r = bI b' ∧ (b' ↔ b ∧ ∀ y, k < y → y < K' → colP (rowP F k) k K' k y = 0)) ∧ jTn t ar R (K' + 1) rr rf (colP (rowP F k) k K') H0 (jMk md M'.2.2) ∧ jExt md c s M0 M') ?_ ?_ N (k + 1) _ M1 ⟨by omega, ⟨b, db, rfl, ⟨fun q => ⟨q, fun y a b => by omega⟩, fun q => q.1⟩⟩, h1.cg (fun x y _ _ => ?_), E1⟩ hkK (by omega)) ?_)
    · rintro j z M' hj ⟨kj, ⟨b', db', rfl, hb'⟩, h', E'⟩
      have rgj := hr k j ⟨Nat.le_refl _, hkR, by omega, hj⟩
      unfold jf_X11_clear_L106
      refine jN_K h'.md (jo_f ?_ ?_)
      · show ¬ nI (K' + 1) - nI 1 ≤ nI j
        rw [nI_sub (by omega), nI_leI (by omega) (by omega)]; omega
      refine jN_at h'.md (jN_row h'.md rfl hkR (by omega) (jN_ld h'.md rfl hkR (by omega) (by omega) (jN_at h'.md (jN_row h'.md rfl hkR (by omega) (jN_ld h'.md rfl hkR (by omega) (by omega) ?_)))))
      have ck : colP (rowP F k) k K' k k = F k k := by unfold colP; rw [if_neg (by omega), g0]
      rw [if_neg (Nat.lt_irrefl j), if_pos kj, rowP_row, ck]
      refine jo_ck (by rw [jI_0 (by omega)]; exact h0) ?_
      rw [jI_tdv (by omega) (by omega)]
      refine jo_bd (jo_mono (jo_up R (fun q z M1 => z = nI q ∧ jTn t ar R (K' + 1) rr rf (fun x y => if y < j then colP (rowP F k) k K' x y else if y = j ∧ x < q then colP (rowP F k) k K' x y else rowP F k x y) H0 (jMk md M1.2.2) ∧ jExt md c s M0 M1) (fun _ M1 => jTn t ar R (K' + 1) rr rf (fun x y => if y < j + 1 then colP (rowP F k) k K' x y else rowP F k x y) H0 (jMk md M1.2.2) ∧ jExt md c s M0 M1) ?_ ?_ N 0 _ M' ⟨rfl, h'.cg (fun x y _ _ => ?_), E'⟩ (Nat.zero_le _) (by omega)) ?_)
      · rintro q z M1 hq ⟨rfl, h1, E1⟩
        unfold jf_X11_clear_L138
        refine jN_R h1.md (jo_f (by rw [nI_leI (by omega) (by omega)]; omega) ?_)
        refine jN_at h1.md (jN_row h1.md rfl hq (by omega) (jN_ld h1.md rfl hq (by omega) (by omega) (jN_at h1.md (jN_row h1.md rfl hq (by omega) (jN_ld h1.md rfl hq (by omega) (by omega) ?_)))))
        have cq : colP (rowP F k) k K' q k = rowP F k q k := by unfold colP; rw [if_neg (by omega)]
        rw [if_neg (Nat.lt_irrefl j), if_neg (fun y => Nat.lt_irrefl q y.2), if_pos kj, cq, jI_mul, jI_sub]
        refine jT_st h1 rfl hq (by omega) (by omega) E1 rfl (fun M2 h2 E2 => jo_ret ⟨by rw [nI_1], h2.cg (fun x y _ _ => ?_), E2⟩)
        unfold uTb
        dsimp only
        by_cases cc : x = q ∧ y = j
        · obtain ⟨rfl, rfl⟩ := cc
          rw [if_pos ⟨rfl, rfl⟩, if_neg (Nat.lt_irrefl y), if_pos ⟨rfl, by omega⟩]
          unfold colP
          rw [if_pos ⟨kj, hj⟩, rowP_row, rowP_row]
        · rw [if_neg cc]
          by_cases c1 : y < j
          · rw [if_pos c1, if_pos c1]
          · rw [if_neg c1, if_neg c1]
            by_cases c2 : y = j ∧ x < q
            · rw [if_pos c2, if_pos (by omega)]
            · rw [if_neg c2, if_neg (by omega)]
      · rintro z M1 ⟨rfl, h1, E1⟩
        unfold jf_X11_clear_L138
        refine jN_R h1.md (jo_t (by rw [nI_leI (by omega) (by omega)]; omega) (jo_ret ⟨h1.cg (fun x y hx _ => ?_), E1⟩))
        by_cases c1 : y < j
        · rw [if_pos c1, if_pos (by omega)]
        · rw [if_neg c1]
          by_cases c2 : y = j
          · rw [if_pos ⟨c2, hx⟩, if_pos (by omega)]
          · rw [if_neg (fun y => c2 y.1), if_neg (by omega)]
      · by_cases c1 : y < j
        · rw [if_pos c1, if_pos c1]
        · rw [if_neg c1, if_neg c1, if_neg (by omega)]
      · rintro _ M1 ⟨h1, E1⟩
        unfold jf_X11_clear_k138_177 jf_X11_clear_j196
        refine jN_at h1.md (jN_row h1.md rfl hkR (by omega) (jN_ld h1.md rfl hkR (by omega) (by omega) ?_))
        rw [if_pos (show j < j + 1 by omega)]
        have rz : (colP (rowP F k) k K' k j).natAbs < 9223372036854775808 := by rw [colP_k kj hj]; have := tmod_lt' (a := F k j) h0; omega
        have nx : ∀ (b2 : Prop) [Decidable b2], (b2 ↔ colP (rowP F k) k K' k j = 0) → jo (jm_ret (.inl (bI b' &&& bI b2, nI j + 1)) : jm_P ((Int32 × Int32) ⊕ Int32)) M1 (fun x M2 => ∃ z, x = .inl z ∧ (k < j + 1 ∧ (∃ b' : Prop, ∃ _ : Decidable b', z = (bI b', nI (j + 1)) ∧ (b' ↔ b ∧ ∀ y, k < y → y < j + 1 → colP (rowP F k) k K' k y = 0)) ∧ jTn t ar R (K' + 1) rr rf (fun x y => if y < j + 1 then colP (rowP F k) k K' x y else rowP F k x y) H0 (jMk md M2.2.2) ∧ jExt md c s M0 M2)) := by
          intro b2 db2 hb2
          refine jo_ret ⟨_, rfl, by omega, ⟨b' ∧ b2, inferInstance, by rw [bI_and, nI_1], ?_⟩, h1, E1⟩
          rw [hb', hb2]
          constructor
          · rintro ⟨⟨q0, q1⟩, q2⟩
            refine ⟨q0, fun x a b => ?_⟩
            by_cases e : x = j
            · rw [e]; exact q2
            · exact q1 x a (by omega)
          · rintro ⟨q0, q⟩
            exact ⟨⟨q0, fun x a b => q x a (by omega)⟩, q j kj (by omega)⟩
        by_cases z0 : colP (rowP F k) k K' k j = 0
        · refine jo_t (by rw [z0]; rfl) (jo_mono (nx True ⟨fun _ => z0, fun _ => trivial⟩) ?_)
          rintro x M2 ⟨z, rfl, hz⟩
          exact hz
        · refine jo_f (by rw [jI_0 (by omega)]; exact z0) (jo_mono (nx False ⟨fun q => q.elim, fun q => z0 q⟩) ?_)
          rintro x M2 ⟨z, rfl, hz⟩
          exact hz
    · rintro z M' ⟨kj, ⟨b', db', rfl, hb'⟩, h', E'⟩
      unfold jf_X11_clear_L106
      refine jN_K h'.md (jo_t ?_ (jo_ret ⟨⟨b', db', rfl, hb'⟩, h'.cg (fun x y _ hy => ?_), E'⟩))
      · show nI (K' + 1) - nI 1 ≤ nI K'
        rw [nI_sub (by omega), nI_leI (by omega) (by omega)]; omega
      · by_cases c1 : y < K'
        · rw [if_pos c1]
        · rw [if_neg c1]; unfold colP; rw [if_neg (by omega)]
    · by_cases c1 : y < k + 1
      · rw [if_pos c1]; unfold colP; rw [if_neg (by omega)]
      · rw [if_neg c1]
    · rintro r M2 ⟨⟨b', db', rfl, hb'⟩, h2, E2⟩
      unfold jf_X11_clear_k106_204
      have ec : b' ↔ clrd F R K' k := by rw [hb', hb]; rfl
      refine jo_ck (by unfold bI; split; exact .inr rfl; exact .inl rfl) (jo_ret ⟨?_, h2, E2⟩)
      by_cases q : b'
      · exact .inl ⟨bI_t q, ec.mp q⟩
      · exact .inr ⟨bI_f q, fun y => q (ec.mpr y)⟩
end CL
