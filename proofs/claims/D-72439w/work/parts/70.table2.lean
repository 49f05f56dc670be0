/-! PLAIN LAW, 70: tables are made and written: component -/
/-- a table that was not there at H0 -/
def jTn (t ar R K : Nat) (rr : Nat → Nat) (rf : Nat → Option Nat) (F : Nat → Nat → Int) (H0 H : HM) : Prop := jTbA t ar R K rr rf F H ∧ H0 t = none ∧ H0 ar = none ∧ (∀ i, H0 (rr i) = none) ∧ jSub H0 H
theorem jTn.tb {t ar R K : Nat} {rr : Nat → Nat} {rf : Nat → Option Nat} {F : Nat → Nat → Int} {H0 H : HM} (h : jTn t ar R K rr rf F H0 H) : jTb t R K F H := ⟨ar, rr, rf, h.1⟩
theorem jTn.to {t ar R K : Nat} {rr : Nat → Nat} {rf : Nat → Option Nat} {F : Nat → Nat → Int} {H0 H H' : HM} (h : jTn t ar R K rr rf F H0 H) (hs : jSub H H') : jTn t ar R K rr rf F H0 H' := by
  obtain ⟨⟨h1, h2, h3, h4⟩, a1, a2, a3, a4⟩ := h
  exact ⟨⟨hs _ _ h1, hs _ _ h2, fun i hi => ⟨(h3 i hi).1, (h3 i hi).2.choose, hs _ _ (h3 i hi).2.choose_spec.1, (h3 i hi).2.choose_spec.2⟩, h4⟩, a1, a2, a3, a4.tr hs⟩
def uTb (F : Nat → Nat → Int) (i j : Nat) (z : Int) : Nat → Nat → Int := fun a b => if a = i ∧ b = j then z else F a b
section TB
variable {β : Type} {Q : β → Mem → Prop} {md : Nat → Bool} {N c s t R K : Nat} {M0 M : Mem} {F : Nat → Nat → Int}
theorem jX_in11 {H0 : HM} (hM : ∀ a, md a = true → a < M0.1) (hE : jExt md c s M0 M) (hs : jSub H0 (jMk md M.2.2)) (ht : H0 t = none) {a0 a1 a2 : Value} (h : jMk md M.2.2 t = some (.inr (11, [a0, a1, a2]))) (hR : R ≤ 1000) (hK : K ≤ 1000) {k : Unit → jm_P β} (kk : ∀ M1 ar rr rf, jTn t ar R K rr rf (fun _ _ => 0) H0 (jMk md M1.2.2) → jExt md (c + 1 + R) (s + R + R * K) M0 M1 → jo (k ()) M1 Q) : jo (jm_bd (jf_X11_init N t (nI R) (nI K)) k) M Q := by
  refine jo_bd ?_
  unfold jf_X11_init
  refine jX_put h (by decide) (by simp) hE (fun M1 e1 E1 => ?_)
  refine jX_put (vs := [a0, .int (nI R), a2]) (by rw [e1, va_up_self]; rfl) (by decide) (by simp) E1 (fun M2 e2 E2 => ?_)
  refine jo_ck ⟨⟨nI_nn (by omega), nI_nn (by omega)⟩, by rw [nI_tc (by omega)]; exact hR, by rw [nI_tc (by omega)]; exact hK⟩ ?_
  rw [nI_tc (by omega), nI_tc (by omega)]
  have s2 : jSub H0 (jMk md M2.2.2) := by rw [e2]; refine jSub.wr ?_ ht; rw [e1]; exact hs.wr ht
  have o2 : jMk md M2.2.2 t = some (.inr (11, [a0, .int (nI R), .int (nI K)])) := by rw [e2, va_up_self]; rfl
  refine jX_mlJ hM E2 (fun q r cr M3 n0 n1 n2 n3 n4 s3 o1 og _ E3 => ?_)
  have o3 := s3 _ _ o2
  refine jX_put o3 (by decide) (by simp) E3 (fun M4 e4 E4 => jo_ret (kk M4 q r cr ⟨⟨?_, ?_, fun i hi => ⟨n4 i hi, fun _ => 0, ?_, fun j hj => rfl⟩, fun i j _ _ hij => n3 i j hij⟩, ht, ?_, fun i => ?_, ?_⟩ E4))
  · rw [e4, va_up_self]; rfl
  · rw [e4, va_up_ne _ _ (fun y => by rw [y] at n0; rw [o2] at n0; cases n0)]; exact o1
  · rw [e4, va_up_ne _ _ (fun y => by have := n1 i; rw [y, o2] at this; cases this)]; exact og i hi
  · cases hh : H0 q with
    | none => rfl
    | some e => have := s2 _ _ hh; rw [n0] at this; cases this
  · cases hh : H0 (r i) with
    | none => rfl
    | some e => have := s2 _ _ hh; rw [n1 i] at this; cases this
  · rw [e4]; exact (s2.tr s3).wr ht
/-- a number of a table is written -/
theorem jT_st {H0 : HM} {ar : Nat} {rr : Nat → Nat} {rf : Nat → Option Nat} (h : jTn t ar R K rr rf F H0 (jMk md M.2.2)) {i j : Nat} {j' : Int32} (hj' : j' = nI j) (hi : i < R) (hj : j < K) (hK : K < 2 ^ 31) (hE : jExt md c s M0 M) {z : Int} {v : Int64} (hv : v = jI z) {p : jm_P β} (kk : ∀ M1, jTn t ar R K rr rf (uTb F i j z) H0 (jMk md M1.2.2) → jExt md c s M0 M1 → jo p M1 Q) : jo (jm_wr (jm_stJ 2 (rf i) j' v) p) M Q := by
  subst hj' hv
  obtain ⟨⟨h1, h2, h3, h4⟩, a1, a2, a3, a4⟩ := h
  obtain ⟨e1, g, g1, g2⟩ := h3 i hi
  rw [e1]
  refine jX_wr (jl_st (mkg g1).2 (jm_ixn hj hK)) g1 hE (fun M1 e2 E1 => kk M1 ⟨⟨?_, ?_, fun i' hi' => ⟨(h3 i' hi').1, ?_⟩, h4⟩, a1, a2, a3, ?_⟩ E1)
  · rw [e2, va_up_ne _ _ (fun y => by rw [y, g1] at h1; cases h1)]; exact h1
  · rw [e2, va_up_ne _ _ (fun y => by rw [y, g1] at h2; cases h2)]; exact h2
  · by_cases ii : i' = i
    · subst ii
      refine ⟨_, by rw [e2, va_up_self], fun j2 hj2 => ?_⟩
      unfold uTb vp_updL
      by_cases jj : j2 = j
      · rw [if_pos jj, if_pos ⟨rfl, jj⟩]
      · rw [if_neg jj, if_neg (fun y => jj y.2)]; exact g2 j2 hj2
    · obtain ⟨_, g', x1, x2⟩ := h3 i' hi'
      refine ⟨g', by rw [e2, va_up_ne _ _ (fun y => ii (h4 _ _ hi' hi y))]; exact x1, fun j2 hj2 => ?_⟩
      unfold uTb
      rw [if_neg (fun y => ii y.1)]; exact x2 j2 hj2
  · rw [e2]; exact a4.wr (a3 i)
end TB
