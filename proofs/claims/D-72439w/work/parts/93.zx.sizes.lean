/-! PLAIN LAW, 93.zx: what the sizes owe -/
/-- the tables that are brought to a diagonal stay small -/
def jSIZE : Prop := ∀ C, jWf C → jSmS C ∧ jSm3 C ∧ jSmN C ∧ jSmP C
theorem smallA_cg {R K K' : Nat} {A B : Nat → Nat → Int} (hK : K = K') (e : ∀ i j, i < R → j < K → A i j = B i j) (h : smallA R K A) : smallA R K' B := by
  subst hK
  exact fun F0 hF => h F0 (fun x y hx hy => by rw [hF x y hx hy, e x y hx hy])
theorem jSm_of {C : CX} (hW : jWf C) (h : jSmS C) : jSm C := by
  intro d hd
  have hk := cCols_le hW (d := d)
  obtain ⟨a1, a2⟩ := sN_all (cCols C d) (by omega)
  have p0 : 0 < 2 ^ cCols C d := Nat.pow_pos (by decide)
  refine smallA_cg a1 (fun i j _ hj => ?_) (h d hd (2 ^ cCols C d - 1) (by omega))
  unfold smT
  rw [a2 j (by omega)]
