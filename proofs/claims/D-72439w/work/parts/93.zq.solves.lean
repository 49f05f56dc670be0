/-! PLAIN LAW, 93.zq: the independent ones, products, solving: model -/
/-- S' is S but for some long arrays and long fields -/
def sW (ks ls : List Nat) (S S' : MS) : Prop := S'.1 = S.1 ∧ S'.2.2.1 = S.2.2.1 ∧ (∀ k, k ∉ ks → S'.2.1 k = S.2.1 k) ∧ ∀ k, k ∉ ls → S'.2.2.2 k = S.2.2.2 k
theorem sW.rf {ks ls : List Nat} {S : MS} : sW ks ls S S := ⟨rfl, rfl, fun _ _ => rfl, fun _ _ => rfl⟩
theorem sW.tr {ks ls ks' ls' : List Nat} {S S' S'' : MS} (h : sW ks ls S S') (h' : sW ks' ls' S' S'') (hk : ∀ k, k ∈ ks' → k ∈ ks) (hl : ∀ k, k ∈ ls' → k ∈ ls) : sW ks ls S S'' :=
  ⟨h'.1.trans h.1, h'.2.1.trans h.2.1, fun k c => (h'.2.2.1 k (fun y => c (hk k y))).trans (h.2.2.1 k c), fun k c => (h'.2.2.2 k (fun y => c (hl k y))).trans (h.2.2.2 k c)⟩
theorem sW.up {ks ls ks' ls' : List Nat} {S S' : MS} (h : sW ks ls S S') (hk : ∀ k, k ∈ ks → k ∈ ks') (hl : ∀ k, k ∈ ls → k ∈ ls') : sW ks' ls' S S' :=
  ⟨h.1, h.2.1, fun k c => h.2.2.1 k (fun y => c (hk k y)), fun k c => h.2.2.2 k (fun y => c (hl k y))⟩
theorem sW_J {S : MS} {k : Nat} {f : Nat → Int64} : sW [k] [] S (sJ S k f) := ⟨rfl, rfl, fun j hj => by
  show va_up S.2.1 k f j = _
  exact va_up_ne _ _ (fun y => hj (by rw [y]; exact List.mem_singleton.mpr rfl)), fun _ _ => rfl⟩
theorem sW_15 {S : MS} {f : Nat → Int64} : sW [15] [] S (s15 S f) := sW_J (k := 15)
def sL (S : MS) (k : Nat) (x : Int64) : MS := (S.1, S.2.1, S.2.2.1, va_up S.2.2.2 k x)
theorem sW_L {S : MS} {k : Nat} {x : Int64} : sW [] [k] S (sL S k x) := ⟨rfl, rfl, fun _ _ => rfl, fun j hj => by
  show va_up S.2.2.2 k x j = _
  exact va_up_ne _ _ (fun y => hj (by rw [y]; exact List.mem_singleton.mpr rfl))⟩
section SV
variable {N m : Nat} {ad : Nat → Nat} {M0 M : Mem} {S : MS} {C : CX} {f : Nat → Int64}
theorem pt_rk1 (hW : jWf C) {s k : Nat} (h : isRk (sN s) (cE C) (fun a e => cOne C (nt s a) e) k) : k = rkN (cE C) (sN s) (smT (ptB C 1) s) := by
  refine h.uniq rkN_is fun k => ?_
  have e : ∀ x : Int, dv k (cE C) (sN s) (smT (ptB C 1) s) x ↔ dv k (cE C) (sN s) (fun e a => (cEd C e 2 : Int) * cOne C (nt s a) e) x := by
    intro x
    have q : ∀ e a, smT (ptB C 1) s e a = (cEd C e 2 : Int) * cOne C (nt s a) e := fun e a => by
      unfold smT ptB
      rw [if_pos rfl, Int.mul_comm]
    exact ⟨fun h => dv_cg (fun i j _ _ => q i j) h, fun h => dv_cg (fun i j _ _ => (q i j).symm) h⟩
  rw [e, dv_wrow (fun i hi => by have := hW.2.2.2.1 i hi; omega)]
  exact ⟨fun h => dv_tr h, fun h => dv_tr h⟩
theorem pt_rk2 (hW : jWf C) {s k : Nat} (hs : s < 2 ^ cF C) (h : isRk (cRows C 2) (sN s) (cSub C 2 0 s) k) : k = rkN (cE C) (sN s) (smT (ptB C 2) s) := by
  refine rkN_eq (R := cE C) (isRk_cg (fun i j hi hj => ?_) h)
  rw [smT_subd hW (.inr rfl) hs i j hi hj]
  rfl
theorem jm_independent (h : jMM m ad M0 (s15 S f) M) (hC : jEnc C (S.1 0)) (hW : jWf C) (hN : 9223372036854775809 < N) {d : Nat} (hd : d = 1 ∨ d = 2) :
    jo (jf_X1_independent N m (nI d)) M (fun x M' => x = nI (ptS C d) ∧ ∃ g, jMM m ad M0 (s15 S g) M') := by
  have hN5 := ptN_le hW (d := d)
  have h5 := hW.1
  have h4 := hW.2.2.1
  have main : jo (jf_X1_independent_j22 N m (nI d) 0 (nI (ptN C d))) M (fun x M' => x = nI (ptS C d) ∧ ∃ g, jMM m ad M0 (s15 S g) M') := by
    unfold jf_X1_independent_j22 jf_X1_independent_k26_108
    refine jo_bd (jo_mono (jo_up (ptN C d) (fun i z M' => z = (nI (gS (cE C) (ptB C d) i), nI i) ∧ ∃ g, jMM m ad M0 (s15 S g) M') (fun x M' => x = nI (ptS C d) ∧ ∃ g, jMM m ad M0 (s15 S g) M') ?_ ?_ N 0 _ M ⟨rfl, f, h⟩ (Nat.zero_le _) (by omega)) ?_)
    · rintro i z M1 hi ⟨rfl, g, h1⟩
      have gl := gS_lt (R := cE C) (F := ptB C d) i (by omega)
      obtain ⟨n1, n2⟩ := sN_or i (by omega) _ gl
      have p5 : 2 ^ (i + 1) ≤ 2 ^ ptN C d := Nat.pow_le_pow_right (by decide) (by omega)
      have p6 : 2 ^ ptN C d ≤ 2 ^ 5 := Nat.pow_le_pow_right (by decide) hN5
      have hb : gS (cE C) (ptB C d) i ||| 2 ^ i < 2 ^ ptN C d := by omega
      have b64 : gS (cE C) (ptB C d) i ||| 2 ^ i < 64 := by omega
      have hs5 := sN_le _ b64
      have fin : ∀ (k : Nat) (M2 : Mem), k ≤ 6 → k = rkN (cE C) (sN (gS (cE C) (ptB C d) i ||| 2 ^ i)) (smT (ptB C d) (gS (cE C) (ptB C d) i ||| 2 ^ i)) → (∃ g, jMM m ad M0 (s15 S g) M2) → jo (jm_bd (jf_X1_ones N (nI (gS (cE C) (ptB C d) i ||| 2 ^ i))) fun x12 => if nI k = x12 then jf_X1_independent_j88 N m (nI d) (nI (gS (cE C) (ptB C d) i)) (nI (ptN C d)) (nI i) (nI (gS (cE C) (ptB C d) i ||| 2 ^ i)) 1 else jf_X1_independent_j88 N m (nI d) (nI (gS (cE C) (ptB C d) i)) (nI (ptN C d)) (nI i) (nI (gS (cE C) (ptB C d) i ||| 2 ^ i)) 0) M2 (fun z M' => z = .inl (nI (gS (cE C) (ptB C d) (i + 1)), nI (i + 1)) ∧ ∃ g, jMM m ad M0 (s15 S g) M') := by
        intro k M2 k6 hk hM
        refine jo_eq (jr_ones b64 (by omega)) ?_
        unfold jf_X1_independent_j88 jf_X1_independent_j101
        by_cases c1 : k = sN (gS (cE C) (ptB C d) i ||| 2 ^ i)
        · refine jo_t (by rw [c1]) (jo_f (by decide) (jo_ret ⟨?_, hM⟩))
          rw [nI_1, gS_succ, if_pos (by rw [← hk]; exact c1)]
        · refine jo_f (by rw [nI_eq (by omega) (by omega)]; exact c1) (jo_t rfl (jo_ret ⟨?_, hM⟩))
          rw [nI_1, gS_succ, if_neg (by rw [← hk]; exact c1)]
      unfold jf_X1_independent_L26
      refine jo_f (by rw [nI_leI (by omega) (by omega)]; omega) ?_
      rw [set_or i (by omega) _ gl]
      rcases hd with rfl | rfl
      · refine jo_f (by decide) (jo_rd (jM_cl h1) (jo_bd (jo_mono (jm_rankOfRows h1 hC hW hN hb) ?_)))
        rintro x M2 ⟨⟨k, rfl, hk⟩, hM⟩
        refine jo_mono (fin k M2 (Nat.le_trans hk.1 hs5) (pt_rk1 hW hk) hM) ?_
        rintro z M3 ⟨rfl, z2⟩
        exact ⟨rfl, z2⟩
      · refine jo_t rfl (jo_rd (jM_cl h1) (jo_bd (jo_mono (jm_rankOf (c := 0) h1 hC hW hN (.inr rfl) (by decide) b64 (.inr (Nat.le_trans (sN_K _ (by omega) _ hb) hN5)) (fun j hj => .inl (tb_lt hb hj))) ?_)))
        rintro x M2 ⟨⟨k, rfl, hk⟩, hM⟩
        refine jo_mono (fin k M2 (Nat.le_trans hk.2.1 hs5) (pt_rk2 hW hb hk) hM) ?_
        rintro z M3 ⟨rfl, z2⟩
        exact ⟨rfl, z2⟩
    · rintro z M1 ⟨rfl, g, h1⟩
      unfold jf_X1_independent_L26
      exact jo_t (by rw [nI_leI (by omega) (by omega)]; omega) (jo_ret ⟨rfl, g, h1⟩)
    · rintro x M1 hx
      exact jo_ret hx
  unfold jf_X1_independent
  rcases hd with rfl | rfl
  · exact jo_t rfl (jo_rd (jM_fR h (k := 0) rfl) (jo_rd (jr_now0 h hC rfl) main))
  · exact jo_f (by decide) (jo_rd (jM_fR h (k := 0) rfl) (jo_rd (jr_now2 h hC rfl) main))
theorem w6J (hW : jWf C) {e : Nat} (he : e < cE C) : ((6 : Int32) / nI (cEd C e 2)).toInt64 = jI (ptW C e) ∧ ¬ nI (cEd C e 2) = 0 := by
  have w := hW.2.2.2.1 e he
  refine ⟨?_, ?_⟩
  · unfold ptW
    rcases (show cEd C e 2 = 1 ∨ cEd C e 2 = 2 ∨ cEd C e 2 = 3 by omega) with q | q | q <;> (rw [q]; decide)
  · show ¬ nI (cEd C e 2) = nI 0
    rw [nI_eq (by omega) (by omega)]; omega
theorem jr_productM (h : jMM m ad M0 S M) (hC : jEnc C (S.1 0)) (hW : jWf C) (hN : 100 < N) {d i j : Nat} (hd : d = 1 ∨ d = 2) (hi : i < ptN C d) (hj : j < ptN C d) : (jf_X1_product N m (nI d) (nI i) (nI j)).1 M = some (jI (ptG C d i j), M) := by
  have h6 := hW.2.1
  refine jo_out ?_
  unfold jf_X1_product jf_X1_product_k20_74
  rcases hd with rfl | rfl
  · refine jo_t rfl (jo_rd (jM_cl h) (jo_eq (jr_near (w := 0) h hC hW hN (by decide) hi hj) (jo_ret ⟨?_, rfl⟩)))
    have := near_abs hW (w := 0) (by decide) hi hj
    have : nrM 0 = 18 := rfl
    rw [iI_l (by omega) (by omega)]
    unfold ptG
    rw [if_pos rfl]
  · refine jo_f (by decide) (jo_bd (jo_mono (jo_up (cE C) (fun e z M' => M' = M ∧ z = (jI (jsum e (fun e => cTwo C e i * cTwo C e j * ptW C e)), nI e)) (fun r M' => M' = M ∧ r = jI (ptG C 2 i j)) ?_ ?_ N 0 _ M ⟨rfl, rfl⟩ (Nat.zero_le _) (by omega)) ?_))
    · rintro e z M' he ⟨rfl, rfl⟩
      obtain ⟨w1, w2⟩ := w6J hW he
      have t1 := cTwo_rg hW (e := e) (show i < cF C from hi)
      have t2 := cTwo_rg hW (e := e) (show j < cF C from hj)
      unfold jf_X1_product_L20
      refine jo_rd (jM_fR h (k := 0) rfl) (jo_rd (jr_now1 h hC rfl) (jo_f (by dsimp only; rw [nI_leI (by omega) (by omega)]; omega) ?_))
      refine jo_rd (jM_cl h) (jo_eq (jr_two h hC hW (by omega) (show i < cF C from hi) hN) (jo_rd (jM_cl h) (jo_eq (jr_two h hC hW (by omega) (show j < cF C from hj) hN) ?_)))
      refine jo_rd (jM_fR h (k := 0) rfl) (jo_eq (jr_wt (d := 1) h hC hW (.inl rfl) he) (jo_ck w2 (jo_ret ⟨rfl, ?_⟩)))
      show (jI (jsum e _) + _ * ((6 : Int32) / nI (cEd C e 2)).toInt64, nI e + 1) = _
      rw [w1, iI_l (by omega) (by omega), iI_l (by omega) (by omega), jI_mul, jI_mul, jI_add, nI_1]
      rfl
    · rintro z M' ⟨rfl, rfl⟩
      unfold jf_X1_product_L20
      refine jo_rd (jM_fR h (k := 0) rfl) (jo_rd (jr_now1 h hC rfl) (jo_t (by dsimp only; rw [nI_leI (by omega) (by omega)]; omega) (jo_ret ⟨rfl, ?_⟩)))
      unfold ptG
      rw [if_neg (by decide)]
    · rintro r M1 ⟨rfl, rfl⟩
      exact jo_ret ⟨rfl, rfl⟩
theorem jr_againstM (h : jMM m ad M0 S M) (hC : jEnc C (S.1 0)) (hW : jWf C) (hN : 100 < N) {d i ch : Nat} (hd : d = 1 ∨ d = 2) (hi : i < ptN C d) (hc : ch < 3) : (jf_X1_against N m (nI d) (nI i) (nI ch)).1 M = some (jI (ptR C d ch i), M) := by
  have h6 := hW.2.1
  have hN5 := ptN_le hW (d := d)
  refine jo_out ?_
  unfold jf_X1_against jf_X1_against_k19_81
  rcases hd with rfl | rfl
  · refine jo_t rfl (jo_rd (jM_cl h) (jo_eq (jr_endsAt h hC hW hN hc (by omega)) (jo_ret ⟨?_, rfl⟩)))
    have := cEnd_le hW (p := i) hc
    rw [iI_l (by omega) (by omega)]
    unfold ptR cEnd
    rw [if_pos rfl]
  · refine jo_f (by decide) (jo_bd (jo_mono (jo_up (cE C) (fun e z M' => M' = M ∧ z = (jI (jsum e (fun e => cTwo C e i * cCh C ch e * ptW C e)), nI e)) (fun r M' => M' = M ∧ r = jI (ptR C 2 ch i)) ?_ ?_ N 0 _ M ⟨rfl, rfl⟩ (Nat.zero_le _) (by omega)) ?_))
    · rintro e z M' he ⟨rfl, rfl⟩
      obtain ⟨w1, w2⟩ := w6J hW he
      have t1 := cTwo_rg hW (e := e) (show i < cF C from hi)
      have t2 := hW.2.2.2.2.2 ch e hc he
      unfold jf_X1_against_L19
      refine jo_rd (jM_fR h (k := 0) rfl) (jo_rd (jr_now1 h hC rfl) (jo_f (by dsimp only; rw [nI_leI (by omega) (by omega)]; omega) ?_))
      refine jo_rd (jM_cl h) (jo_eq (jr_two h hC hW (by omega) (show i < cF C from hi) hN) ?_)
      refine jo_rd (jM_fR h (k := 0) rfl) (jo_rd (jr_ch h hC hW hc he (by simp only [nI_lit, nI_mul, nI_add])) ?_)
      refine jo_rd (jM_fR h (k := 0) rfl) (jo_eq (jr_wt (d := 1) h hC hW (.inl rfl) he) (jo_ck w2 (jo_ret ⟨rfl, ?_⟩)))
      show (jI (jsum e _) + _ * ((6 : Int32) / nI (cEd C e 2)).toInt64, nI e + 1) = _
      rw [w1, iI_l (by omega) (by omega), iI_l (by omega) (by omega), jI_mul, jI_mul, jI_add, nI_1]
      rfl
    · rintro z M' ⟨rfl, rfl⟩
      unfold jf_X1_against_L19
      refine jo_rd (jM_fR h (k := 0) rfl) (jo_rd (jr_now1 h hC rfl) (jo_t (by dsimp only; rw [nI_leI (by omega) (by omega)]; omega) (jo_ret ⟨rfl, ?_⟩)))
      unfold ptR
      rw [if_neg (by decide)]
    · rintro r M1 ⟨rfl, rfl⟩
      exact jo_ret ⟨rfl, rfl⟩
end SV
