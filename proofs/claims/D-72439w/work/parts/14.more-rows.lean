/-! MORE ROWS: guards, names, null tests, arguments -/
def jm_ck (c : Prop) [Decidable c] (_ : Mem) : Option Unit := if c then some () else none
theorem jm_ck_some {c : Prop} [Decidable c] {M : Mem} {u : Unit} (h : jm_ck c M = some u) : c := by
  unfold jm_ck at h
  by_cases hc : c
  · exact hc
  · rw [if_neg hc] at h; cases h
theorem jm_ck_eq {c : Prop} [Decidable c] {M : Mem} (h : c) : jm_ck c M = some () := by
  unfold jm_ck
  rw [if_pos h]
def jm_lt {α β : Type} (a : α) (k : α → jm_P β) : jm_P β := k a
theorem jm_lt_some {α β : Type} {a : α} {k : α → jm_P β} {M M' : Mem} {r : β} (h : (jm_lt a k).1 M = some (r, M')) : ∃ y : α, y = a ∧ (k y).1 M = some (r, M') := ⟨a, rfl, h⟩
def jm_nz (r : Option Nat) (_ : Mem) : Option Nat := r
/-- the address of an object of the class -/
def jm_cl (ci : Nat) (r : Option Nat) (M : Mem) : Option Nat := match r with
  | none => none
  | some a => match M.2.2 a with
    | some (.inr o) => if o.1 = ci then some a else none
    | _ => none
theorem jm_cl_some {ci : Nat} {r : Option Nat} {M : Mem} {a : Nat} (h : jm_cl ci r M = some a) : ∃ fs : List Value, r = some a ∧ M.2.2 a = some (.inr (ci, fs)) := by
  unfold jm_cl at h
  split at h
  · cases h
  · split at h
    · rename_i o ho
      split at h
      · rename_i hc
        cases h
        subst hc
        exact ⟨o.2, rfl, ho⟩
      · cases h
    · cases h
theorem va_fits_o {C : String} (r : Option Nat) : fits (.object C) (va_rf r) = true := by cases r <;> rfl
theorem va_fits_a {t : FieldType} (r : Option Nat) : fits (.array t) (va_rf r) = true := by cases r <;> rfl
theorem va_nar_o {C : String} (r : Option Nat) : narrow (.object C) (va_rf r) = va_rf r := by cases r <;> rfl
theorem va_nar_a {t : FieldType} (r : Option Nat) : narrow (.array t) (va_rf r) = va_rf r := by cases r <;> rfl
theorem lv_args_n {i : Nat} : lv_args i [] = [] := rfl
theorem lv_args_r {i : Nat} {r : Option Nat} {vs : List Value} : lv_args i (va_rf r :: vs) = (i, va_rf r) :: lv_args (i + 1) vs := by
  show (i, va_rf r) :: lv_args (if (va_rf r).category = 2 then i + 2 else i + 1) vs = _
  rw [va_rf_cat, if_neg (by decide)]
theorem lv_args_i {i : Nat} {r : Int32} {vs : List Value} : lv_args i (.int r :: vs) = (i, .int r) :: lv_args (i + 1) vs := rfl
theorem lv_args_j {i : Nat} {r : Int64} {vs : List Value} : lv_args i (.long r :: vs) = (i, .long r) :: lv_args (i + 2) vs := rfl
theorem cs_n : (([] : List Value).map fun v => v.category).sum = 0 := rfl
theorem cs_r {r : Option Nat} {vs : List Value} : ((va_rf r :: vs).map fun v => v.category).sum = 1 + (vs.map fun v => v.category).sum := by rw [List.map_cons, List.sum_cons, va_rf_cat]
theorem cs_i {r : Int32} {vs : List Value} : ((Value.int r :: vs).map fun v => v.category).sum = 1 + (vs.map fun v => v.category).sum := by rw [List.map_cons, List.sum_cons]; rfl
theorem cs_j {r : Int64} {vs : List Value} : ((Value.long r :: vs).map fun v => v.category).sum = 2 + (vs.map fun v => v.category).sum := by rw [List.map_cons, List.sum_cons]; rfl
theorem cs_f {r : UInt32} {vs : List Value} : ((Value.float r :: vs).map fun v => v.category).sum = 1 + (vs.map fun v => v.category).sum := by rw [List.map_cons, List.sum_cons]; rfl
theorem lg_sl_n : lg_sl [] = [] := rfl
theorem lg_sl_r {r : Option Nat} {vs : List Value} : lg_sl (va_rf r :: vs) = .val (va_rf r) :: lg_sl vs := by
  unfold lg_sl
  rw [List.flatMap_cons, va_rf_cat, if_neg (by decide)]
  rfl
theorem lg_sl_i {r : Int32} {vs : List Value} : lg_sl (.int r :: vs) = .val (.int r) :: lg_sl vs := rfl
theorem lg_sl_j {r : Int64} {vs : List Value} : lg_sl (.long r :: vs) = .val (.long r) :: .second :: lg_sl vs := rfl
section JM
variable {p : Program} {l : Launch} {e : Env} {R : Room} {s : State} {m : MethodId} {args : Array Value} {below : List Frame} {meth : Method} {c : Code} {H : Heap} {locs : List Loc} {cells slots : Nat} {Q : State → Prop}
variable {cc : ByteArray} {pc : Nat} {ls : Array Slot} {rest : List Value} {g : GD} {b : Nat} {M0 Mf M : Mem}
theorem jw_ifnull {r : Option Nat} {off : Int} {tgt : Nat} (hx : p.tables.exec = Jvm.exec) (hb : c.code = cc) (hdg : decode cc pc = .ok (.ifnull off, 3)) (ht : (pc : Int) + off = (tgt : Int)) (kt : r = none → W p l e R s m args below meth c H locs cells slots Q (F0 m tgt ls rest)) (kf : ¬ r = none → W p l e R s m args below meth c H locs cells slots Q (F0 m (pc + 3) ls rest)) : W p l e R s m args below meth c H locs cells slots Q (F0 m pc ls (va_rf r :: rest)) := by
  cases r with
  | none => exact lv_ifnullN hx hb hdg ht (kt rfl)
  | some x => exact lv_ifnull hx hb hdg (kf (fun q => by cases q))
theorem jw_ifnonnull {r : Option Nat} {off : Int} {tgt : Nat} (hx : p.tables.exec = Jvm.exec) (hb : c.code = cc) (hdg : decode cc pc = .ok (.ifnonnull off, 3)) (ht : (pc : Int) + off = (tgt : Int)) (kt : ¬ r = none → W p l e R s m args below meth c H locs cells slots Q (F0 m tgt ls rest)) (kf : r = none → W p l e R s m args below meth c H locs cells slots Q (F0 m (pc + 3) ls rest)) : W p l e R s m args below meth c H locs cells slots Q (F0 m pc ls (va_rf r :: rest)) := by
  cases r with
  | none => exact lv_ifnonnullN hx hb hdg (kf rfl)
  | some x => exact lv_ifnonnull hx hb hdg ht (kt (fun q => by cases q))
theorem jw_null (hx : p.tables.exec = Jvm.exec) (hb : c.code = cc) (hdg : decode cc pc = .ok (.aconst_null, 1)) (k : W p l e R s m args below meth c H locs cells slots Q (F0 m (pc + 1) ls (va_rf none :: rest))) : W p l e R s m args below meth c H locs cells slots Q (F0 m pc ls rest) := lv_null hx hb hdg k
theorem jw_ldcwF (hexec : p.tables.exec = Jvm.exec) (hb : c.code = cc) {own : String} {index : Nat} {v : UInt32} (hown : s.vm.findClass own = some m.cls) (hconst : (Jvm.Cond.constantFloat own index v).before args s = true) (hdg : decode cc pc = .ok (.ldc_w index, 3)) (k : W p l e R s m args below meth c H locs cells slots Q (F0 m (pc + 3) ls (.float v :: rest))) : W p l e R s m args below meth c H locs cells slots Q (F0 m pc ls rest) := by
  intro T hT X
  obtain ⟨t, a, b⟩ := k T hT X
  obtain ⟨kk, cf, hk, hcf, hcp⟩ := Cond.constantFloat_spec hown hconst
  obtain ⟨k', hk', he⟩ := X.warmed.alike.2.2 _ _ hk
  refine ⟨t, ?_, b⟩
  have hdg' : decode c.code (F0 m pc ls rest).pc = .ok (.ldc_w index, 3) := by rw [hb]; exact hdg
  jvm_step X.here [hexec, hdg', ldc_w.wp_float (s := T) (f := F0 m pc ls rest) X.here.top hk' (by rw [he]; exact hcf) hcp]
  exact a
end JM
