/-! PLAIN LAW, 93.y: trees on both sides -/
/-- all tables of some columns stay small -/
def jSmS (C : CX) : Prop := ∀ d, d = 1 ∨ d = 2 → ∀ s, s < 2 ^ cCols C d → smallA (cRows C d) (sN s) (smT (cTab C d) s)
section TR
variable {N x m : Nat} {ad : Nat → Nat} {md : Nat → Bool} {c s : Nat} {M0 M : Mem} {T : ST} {C : CX} {S : MS} {f : Nat → Int64}
noncomputable def tT (C : CX) (s : Nat) : Int := gN (rkN (cRows C 2) (sN s) (smT (cTab C 2) s)) (cRows C 2) (sN s) (smT (cTab C 2) s)
theorem jx_tws (hM : ∀ a, md a = true → a < M0.1) (hE : jExt md c s M0 M) {a b : Nat} (h : jCx a C (jMk md M.2.2)) (hW : jWf C) (hS : jSm2 C) (hb : b < 2 ^ cCols C 2) (hN : 1180591620717411303424 < N) : jo (jf_X9_twisted N a (nI b)) M (fun r M' => r = jI (tT C b) ∧ jSub (jMk md M.2.2) (jMk md M'.2.2) ∧ jExt md (c + 40) (s + 200) M0 M') := by
  have h4 := cF4 hW
  unfold jf_X9_twisted
  refine jx_twisted (b := b) hM hE h hW hS hb hN (fun q' k w M1 w1 w2 s1 E1 => ?_)
  have k4 : k ≤ cCols C 2 := Nat.le_trans w1.2.1 (sN_K _ (by omega) b (by omega))
  obtain ⟨g, g1, g2⟩ := id w2
  refine jo_len (mkg g1).2 rfl ?_
  refine jo_bd (jo_mono (jo_up k (fun i z M' => M' = M1 ∧ z = (jI (pr i w), nI i)) (fun r M' => M' = M1 ∧ r = jI (pr k w)) ?_ ?_ N 0 _ M1 ⟨rfl, rfl⟩ (Nat.zero_le _) (by omega)) ?_)
  · rintro i z M' hi ⟨rfl, rfl⟩
    unfold jf_X9_twisted_L24
    refine jo_f (by rw [nI_leI (by omega) (by omega)]; omega) (jRow_ld w2.ml rfl hi (by omega) (jo_ret ⟨rfl, ?_⟩))
    rw [jI_mul, nI_1, pr_succ]
  · rintro z M' ⟨rfl, rfl⟩
    unfold jf_X9_twisted_L24
    exact jo_t (by rw [nI_leI (by omega) (by omega)]; omega) (jo_ret ⟨rfl, rfl⟩)
  · rintro r M2 ⟨rfl, rfl⟩
    unfold jf_X9_twisted_k24_49
    refine jo_ret ⟨?_, s1, E1⟩
    unfold tT
    rw [← rkN_eq w1.2.2.2.2.2.2, w1.gN (Nat.le_refl k)]
/-- what a set of columns counts -/
def wP (C : CX) (d s : Nat) : Nat → Int := fun n => pr n (fun j => if s.testBit j = true then ((cWt C d j : Nat) : Int) else 1)
noncomputable def trV (C : CX) (d v s : Nat) : Int := if v = 0 then 1 else wP C d s (cCols C d) * (if d = 2 then tT C s else 1) * (if d = 2 then tT C s else 1)
noncomputable def trR (C : CX) (d : Nat) : Nat := rkN (cRows C d) (cCols C d) (cTab C d)
noncomputable def trS (C : CX) (d v : Nat) : Int := jsum (2 ^ cCols C d) (fun s => @ite Int (sN s = trR C d ∧ rkN (cRows C d) (sN s) (smT (cTab C d) s) = trR C d) (Classical.propDecidable _) (trV C d v s) 0)
theorem jI_add' {a b : Int} : jI a + jI b = jI (a + b) := (Int64.ofInt_add a b).symm
theorem jx_trL69 {a t q d v k b : Nat} {v6 : Int64} {F : Nat → Nat → Int} {R : Nat} {g : Nat → Int32} (hT : jTb t R (cCols C d) F M.2.2) (hq : M.2.2 q = some (aI 0 (cCols C d) g)) (hg : ∀ k, k < cCols C d → g k = nI (cWt C d k)) (hwt : ∀ k, k < cCols C d → cWt C d k < 100) (hK : cCols C d ≤ 6) (hb : b < 64) (hv : v = 0 ∨ v = 1) (hN : 100 < N) :
    jo (jm_it (fun z => jf_X9_trees_L69 N a (nI d) (nI v) (some t) (some q) (nI k) v6 (nI b) z.1 z.2) N ((1 : Int64), (0 : Int32))) M (fun r M' => M' = M ∧ r = jI (if v = 0 then 1 else wP C d b (cCols C d))) := by
  rcases hv with rfl | rfl
  · obtain ⟨N', rfl⟩ : ∃ n, N = n + 1 := ⟨N - 1, by omega⟩
    have st : jo (jf_X9_trees_L69 (N' + 1) a (nI d) (nI 0) (some t) (some q) (nI k) v6 (nI b) 1 0) M (fun z M' => M' = M ∧ z = .inr 1) := by
      unfold jf_X9_trees_L69
      refine jT_cols hT ?_
      by_cases c : nI (cCols C d) ≤ 0
      · exact jo_t c (jo_ret ⟨rfl, rfl⟩)
      · exact jo_f c (jo_f (by decide) (jo_ret ⟨rfl, rfl⟩))
    refine jo_its (jo_mono st ?_)
    rintro z M1 ⟨rfl, rfl⟩
    exact ⟨rfl, rfl⟩
  · refine jo_mono (jo_up (cCols C d) (fun i z M' => M' = M ∧ z = (jI (wP C d b i), nI i)) (fun r M' => M' = M ∧ r = jI (if 1 = 0 then 1 else wP C d b (cCols C d))) ?_ ?_ N 0 _ M ⟨rfl, rfl⟩ (Nat.zero_le _) (by omega)) (fun _ _ g => g)
    · rintro i z M' hi ⟨rfl, rfl⟩
      unfold jf_X9_trees_L69 jf_X9_trees_j105
      refine jT_cols hT (jo_f (by rw [nI_leI (by omega) (by omega)]; omega) (jo_t rfl (jo_eq (jx_has0 hb (by omega)) (jo_bI (fun c => ?_) (fun c => ?_)))))
      · refine jo_ret ⟨rfl, ?_⟩
        rw [nI_1]
        unfold wP
        rw [pr_succ, if_neg c, show (1 : Int64) = jI 1 from rfl, jI_mul]
      · refine jo_ldI hq rfl hi (by omega) ?_
        rw [hg i hi]
        refine jo_ret ⟨rfl, ?_⟩
        have := hwt i hi
        unfold wP
        rw [nI_1, pr_succ, if_pos c, show nI (cWt C d i) = iI ((cWt C d i : Nat) : Int) from rfl, iI_l (by omega) (by omega), jI_mul]
    · rintro z M' ⟨rfl, rfl⟩
      unfold jf_X9_trees_L69
      exact jT_cols hT (jo_t (by rw [nI_leI (by omega) (by omega)]; omega) (jo_ret ⟨rfl, rfl⟩))
theorem cWt_lt (hW : jWf C) {d k : Nat} (hd : d = 1 ∨ d = 2) (hk : k < cCols C d) : cWt C d k < 100 := by
  unfold cWt
  rcases hd with rfl | rfl
  · rw [if_pos rfl]; have := hW.2.2.2.1 k hk; omega
  · rw [if_neg (by decide)]; have := hW.2.2.2.2.1 k hk; omega
theorem jSmS.two (h : jSmS C) : jSm2 C := fun s hs => h 2 (.inr rfl) s hs
theorem jx_trees (hM : ∀ a, md a = true → a < M0.1) (hE : jExt md c s M0 M) {a d v : Nat} (h : jCx a C (jMk md M.2.2)) (hW : jWf C) (hS : jSm C) (hSS : jSmS C) (hd : d = 1 ∨ d = 2) (hv : v = 0 ∨ v = 1) (hN : 1180591620717411303424 < N) : jo (jf_X9_trees N a (nI d) (nI v)) M (fun r M' => r = jI (trS C d v) ∧ jSub (jMk md M.2.2) (jMk md M'.2.2) ∧ jExt md (c + 5000) (s + 25000) M0 M') := by
  have hr6 := cRows_le hW (d := d)
  have hk6 := cCols_le hW (d := d)
  have rk : cRows C d * (cCols C d + 1) ≤ 6 * 7 := Nat.mul_le_mul hr6 (by omega)
  have pp : 2 ^ cCols C d ≤ 64 := Nat.pow_le_pow_right (n := 2) (by decide) hk6
  obtain ⟨va, ha⟩ := h.ob
  unfold jf_X9_trees jf_X9_trees_k25_155
  refine jo_cl (mkg ha).2 (jo_bd (jo_mono (jx_table9 hM hE h hW hd (by omega)) ?_))
  rintro r M1 ⟨t, rfl, s1, E1, ht⟩
  refine jo_cl (mkg (s1 _ _ ha)).2 (jo_bd (jo_mono (jx_weights hM E1 (h.kp s1.kp) hW hd (by omega)) ?_))
  rintro r M2 ⟨q, rfl, s2, E2, ⟨g, g1, g2⟩⟩
  refine jT_cl ((ht.sub s2).sub jMk.sub) (jo_bd (jo_mono (jx_Trank hM E2 (ht.sub s2) (by omega) (by omega) hN (hS d hd)) ?_))
  rintro r M3 ⟨⟨k, rfl, hk⟩, s3, E3⟩
  have hkk : k = trR C d := rkN_eq hk
  have k6 : k ≤ 6 := Nat.le_trans hk.1 hr6
  refine jo_bd (jo_mono (jo_up (2 ^ cCols C d) (fun i z M' => z = (jI (jsum i (fun s => @ite Int (sN s = trR C d ∧ rkN (cRows C d) (sN s) (smT (cTab C d) s) = trR C d) (Classical.propDecidable _) (trV C d v s) 0)), nI i) ∧ jSub (jMk md M3.2.2) (jMk md M'.2.2) ∧ jExt md (c + 30 + 70 * i) (s + 200 + 350 * i) M0 M') (fun r M' => r = jI (trS C d v) ∧ jSub (jMk md M3.2.2) (jMk md M'.2.2) ∧ jExt md (c + 5000) (s + 25000) M0 M') ?_ ?_ N 0 _ M3 ⟨rfl, fun _ _ h => h, E3.mono (by omega) (by omega)⟩ (Nat.zero_le _) (by omega)) ?_)
  · rintro b z M4 hb ⟨rfl, s4, E4⟩
    have h64 : b < 64 := by omega
    have hT : jTb t (cRows C d) (cCols C d) (cTab C d) (jMk md M4.2.2) := ((ht.sub s2).sub s3).sub s4
    have hsN : sN b ≤ cCols C d := sN_K _ (by omega) b hb
    have rk2 : cRows C d * (sN b + 1) ≤ 6 * 7 := Nat.mul_le_mul hr6 (by omega)
    have rk3 : cRows C d * sN b ≤ 6 * 7 := Nat.mul_le_mul hr6 (by omega)
    unfold jf_X9_trees_L25
    refine jT_cols (hT.sub jMk.sub) ?_
    rw [shl_nI _ (by omega)]
    refine jo_f (by rw [nI_leI (by omega) (by omega)]; omega) (jo_eq (jx_bits h64) ?_)
    have skip : ∀ M5 : Mem, jSub (jMk md M3.2.2) (jMk md M5.2.2) → jExt md (c + 30 + 70 * (b + 1)) (s + 200 + 350 * (b + 1)) M0 M5 → ¬ (sN b = trR C d ∧ rkN (cRows C d) (sN b) (smT (cTab C d) b) = trR C d) → jo (jf_X9_trees_j149 N a (nI d) (nI v) (some t) (some q) (nI k) (jI (jsum b (fun s => @ite Int (sN s = trR C d ∧ rkN (cRows C d) (sN s) (smT (cTab C d) s) = trR C d) (Classical.propDecidable _) (trV C d v s) 0))) (nI b)) M5 (fun z M' => z = .inl (jI (jsum (b + 1) (fun s => @ite Int (sN s = trR C d ∧ rkN (cRows C d) (sN s) (smT (cTab C d) s) = trR C d) (Classical.propDecidable _) (trV C d v s) 0)), nI (b + 1)) ∧ jSub (jMk md M3.2.2) (jMk md M'.2.2) ∧ jExt md (c + 30 + 70 * (b + 1)) (s + 200 + 350 * (b + 1)) M0 M') := by
      intro M5 s5 E5 hn
      unfold jf_X9_trees_j149
      refine jo_ret ⟨?_, s5, E5⟩
      rw [nI_1, ds_succ, if_neg hn, Int.add_zero]
    by_cases c1 : sN b = k
    · refine jo_t (by rw [c1]) (jT_cl (hT.sub jMk.sub) (jo_bd (jo_mono (jx_some hM E4 hT (by omega) hk6 (by omega) hb) ?_)))
      rintro r M5 ⟨t2, ar, rr, rf, rfl, h5, E5⟩
      refine jN_cl h5.md (jo_bd (jo_mono (jx_Trank hM E5 h5.tb (by omega) (by omega) hN (hSS d hd b hb)) ?_))
      rintro r M6 ⟨⟨k', rfl, hk'⟩, s6, E6⟩
      have hkk' : k' = rkN (cRows C d) (sN b) (smT (cTab C d) b) := rkN_eq hk'
      have s46 := s4.tr (h5.2.2.2.2.tr s6)
      have k'6 : k' ≤ 6 := Nat.le_trans hk'.1 hr6
      by_cases c2 : k ≤ k'
      · have hy : sN b = trR C d ∧ rkN (cRows C d) (sN b) (smT (cTab C d) b) = trR C d := ⟨by omega, by have := hk'.2.1; omega⟩
        refine jo_t (by rw [nI_leI (by omega) (by omega)]; exact c2) ?_
        refine jo_bd (jo_mono (jx_trL69 (C := C) (h5.2.2.2.2.tr s6 |> fun u => (hT.sub u).sub jMk.sub) (mkg ((s3.tr s46) _ _ g1)).2 g2 (fun k hk => cWt_lt hW hd hk) hk6 h64 hv (by omega)) ?_)
        rintro r M7 ⟨rfl, rfl⟩
        have fin : ∀ (M8 : Mem) (t0 : Int), t0 = (if d = 2 ∧ v = 1 then tT C b else 1) → jSub (jMk md M3.2.2) (jMk md M8.2.2) → jExt md (c + 30 + 70 * (b + 1)) (s + 200 + 350 * (b + 1)) M0 M8 → jo (jf_X9_trees_j134 N a (nI d) (nI v) (some t) (some q) (nI k) (jI (jsum b (fun s => @ite Int (sN s = trR C d ∧ rkN (cRows C d) (sN s) (smT (cTab C d) s) = trR C d) (Classical.propDecidable _) (trV C d v s) 0))) (nI b) (jI (if v = 0 then 1 else wP C d b (cCols C d))) (jI t0)) M8 (fun z M' => z = .inl (jI (jsum (b + 1) (fun s => @ite Int (sN s = trR C d ∧ rkN (cRows C d) (sN s) (smT (cTab C d) s) = trR C d) (Classical.propDecidable _) (trV C d v s) 0)), nI (b + 1)) ∧ jSub (jMk md M3.2.2) (jMk md M'.2.2) ∧ jExt md (c + 30 + 70 * (b + 1)) (s + 200 + 350 * (b + 1)) M0 M') := by
          intro M8 t0 ht0 s8 E8
          unfold jf_X9_trees_j134 jf_X9_trees_j149
          refine jo_ret ⟨?_, s8, E8⟩
          rw [nI_1, ds_succ, if_pos hy, jI_mul, jI_mul, jI_add', ht0]
          congr 4
          unfold trV
          rcases hv with rfl | rfl
          · rw [if_pos rfl, if_pos rfl, if_neg (fun y => absurd y.2 (by decide))]; rfl
          · rw [if_neg (show ¬ (1 : Nat) = 0 by decide), if_neg (show ¬ (1 : Nat) = 0 by decide)]
            by_cases d2 : d = 2
            · rw [if_pos ⟨d2, rfl⟩, if_pos d2]
            · rw [if_neg (fun y => d2 y.1), if_neg d2]
        unfold jf_X9_trees_k69_114 jf_X9_trees_j133
        by_cases d2 : d = 2
        · subst d2
          refine jo_t rfl ?_
          rcases hv with rfl | rfl
          · refine jo_f (by decide) (jo_mono (fin M7 1 rfl s46 (E6.mono (by omega) (by omega))) ?_)
            rintro z M8 ⟨rfl, z2⟩
            exact ⟨rfl, z2⟩
          · refine jo_t rfl (jo_cl (mkg (((s1.tr s2).tr s3).tr s46 _ _ ha)).2 (jo_bd (jo_mono (jx_tws hM E6 (h.kp (((s1.tr s2).tr s3).tr s46).kp) hW hSS.two hb hN) ?_)))
            rintro r M8 ⟨rfl, s8, E8⟩
            refine jo_mono (fin M8 _ (by rw [if_pos ⟨rfl, rfl⟩]) (s46.tr s8) (E8.mono (by omega) (by omega))) ?_
            rintro z M8 ⟨rfl, z2⟩
            exact ⟨rfl, z2⟩
        · refine jo_f (by rw [show (2 : Int32) = nI 2 from rfl, nI_eq (by omega) (by omega)]; exact d2) (jo_mono (fin M7 1 (by rw [if_neg (fun y => d2 y.1)]) s46 (E6.mono (by omega) (by omega))) ?_)
          rintro z M8 ⟨rfl, z2⟩
          exact ⟨rfl, z2⟩
      · refine jo_f (by rw [nI_leI (by omega) (by omega)]; exact c2) (jo_mono (skip M6 s46 (E6.mono (by omega) (by omega)) (fun y => by omega)) ?_)
        rintro z M7 ⟨rfl, z2⟩
        exact ⟨rfl, z2⟩
    · refine jo_f (by rw [nI_eq (by omega) (by omega)]; exact c1) (jo_mono (skip M4 s4 (E4.mono (by omega) (by omega)) (fun y => by omega)) ?_)
      rintro z M7 ⟨rfl, z2⟩
      exact ⟨rfl, z2⟩
  · rintro z M4 ⟨rfl, s4, E4⟩
    have hT : jTb t (cRows C d) (cCols C d) (cTab C d) (jMk md M4.2.2) := ((ht.sub s2).sub s3).sub s4
    unfold jf_X9_trees_L25
    refine jT_cols (hT.sub jMk.sub) ?_
    rw [shl_nI _ (by omega)]
    refine jo_t (by rw [nI_leI (by omega) (by omega)]; omega) (jo_ret ⟨rfl, s4, E4.mono (by omega) (by omega)⟩)
  · rintro r M4 ⟨rfl, s4, E4⟩
    exact jo_ret ⟨rfl, ((s1.tr s2).tr s3).tr s4, E4⟩
end TR
