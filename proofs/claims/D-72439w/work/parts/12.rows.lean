/-! ROWS: a step of the machine over the abstract heap -/
theorem jm_fld_some {cs : List Nat} {k : Nat} {r : Option Nat} {M : Mem} {v : Value} (h : jm_fld cs k r M = some v) : ∃ (a c : Nat) (fs : List Value), r = some a ∧ M.2.2 a = some (.inr (c, fs)) ∧ c ∈ cs ∧ fs[k]? = some v := by
  unfold jm_fld at h
  split at h
  · cases h
  · rename_i a
    split at h
    · rename_i o ho
      split at h
      · rename_i hc
        exact ⟨a, o.1, o.2, rfl, ho, hc, h⟩
      · cases h
    · cases h
theorem jm_fI_some {cs : List Nat} {k : Nat} {r : Option Nat} {M : Mem} {v : Int32} (h : jm_fI cs k r M = some v) : jm_fld cs k r M = some (.int v) := by
  unfold jm_fI at h
  split at h
  · rename_i x hx; cases h; exact hx
  · cases h
theorem jm_fJ_some {cs : List Nat} {k : Nat} {r : Option Nat} {M : Mem} {v : Int64} (h : jm_fJ cs k r M = some v) : jm_fld cs k r M = some (.long v) := by
  unfold jm_fJ at h
  split at h
  · rename_i x hx; cases h; exact hx
  · cases h
theorem jm_fR_some {cs : List Nat} {k : Nat} {r : Option Nat} {M : Mem} {v : Option Nat} (h : jm_fR cs k r M = some v) : jm_fld cs k r M = some (va_rf v) := by
  unfold jm_fR at h
  split at h
  · rename_i x hx; cases h; exact hx
  · rename_i hx; cases h; exact hx
  · cases h
theorem jm_put_some {cs : List Nat} {k : Nat} {v : Value} {r : Option Nat} {M : Mem} {f : Nat → Option CE} (h : jm_put cs k v r M = some f) : ∃ (a c : Nat) (fs : List Value), r = some a ∧ M.2.2 a = some (.inr (c, fs)) ∧ c ∈ cs ∧ k < fs.length ∧ f = va_up M.2.2 a (some (.inr (c, fs.set k v))) := by
  unfold jm_put at h
  split at h
  · cases h
  · rename_i a
    split at h
    · rename_i o ho
      split at h
      · rename_i hc
        cases h
        exact ⟨a, o.1, o.2, rfl, ho, hc.1, hc.2, rfl⟩
      · cases h
    · cases h
theorem jm_kl_some {r : Option Nat} {M : Mem} {x : Nat × Nat} (h : jm_kl r M = some x) : ∃ fs : List Value, r = some x.1 ∧ M.2.2 x.1 = some (.inr (x.2, fs)) := by
  unfold jm_kl at h
  split at h
  · cases h
  · split at h
    · rename_i o ho
      cases h
      exact ⟨o.2, rfl, ho⟩
    · cases h
theorem jm_ar_some {kd : Nat} {r : Option Nat} {M : Mem} {x : vp_A} (h : jm_ar kd r M = some x) : ∃ a : Nat, r = some a ∧ M.2.2 a = some (.inl (kd, x)) := by
  unfold jm_ar at h
  split at h
  · cases h
  · rename_i a
    split at h
    · rename_i y hy
      split at h
      · rename_i hk
        cases h
        subst hk
        exact ⟨a, rfl, hy⟩
      · cases h
    · cases h
theorem jm_len_some {kd : Nat} {r : Option Nat} {M : Mem} {v : Int32} (h : jm_len kd r M = some v) : ∃ (a : Nat) (x : vp_A), r = some a ∧ M.2.2 a = some (.inl (kd, x)) ∧ Int32.ofNat x.1 = v := by
  unfold jm_len at h
  split at h
  · rename_i x hx
    cases h
    obtain ⟨a, h1, h2⟩ := jm_ar_some hx
    exact ⟨a, x, h1, h2, rfl⟩
  · cases h
theorem jm_ldI_some {kd : Nat} {r : Option Nat} {i : Int32} {M : Mem} {v : Int32} (h : jm_ldI kd r i M = some v) : ∃ (a n : Nat) (f : Nat → Int32), r = some a ∧ M.2.2 a = some (.inl (kd, n, .inl f)) ∧ vp_in i n ∧ v = f i.toNatClampNeg := by
  unfold jm_ldI at h
  split at h
  · rename_i n f hx
    split at h
    · rename_i j hj
      cases h
      obtain ⟨a, h1, h2⟩ := jm_ar_some hx
      obtain ⟨h3, h4, -⟩ := jm_ix_some hj
      exact ⟨a, n, f, h1, h2, h3, by rw [h4]⟩
    · cases h
  · cases h
theorem jm_ldJ_some {kd : Nat} {r : Option Nat} {i : Int32} {M : Mem} {v : Int64} (h : jm_ldJ kd r i M = some v) : ∃ (a n : Nat) (f : Nat → Int64), r = some a ∧ M.2.2 a = some (.inl (kd, n, .inr (.inl f))) ∧ vp_in i n ∧ v = f i.toNatClampNeg := by
  unfold jm_ldJ at h
  split at h
  · rename_i n f hx
    split at h
    · rename_i j hj
      cases h
      obtain ⟨a, h1, h2⟩ := jm_ar_some hx
      obtain ⟨h3, h4, -⟩ := jm_ix_some hj
      exact ⟨a, n, f, h1, h2, h3, by rw [h4]⟩
    · cases h
  · cases h
theorem jm_ldR_some {kd : Nat} {r : Option Nat} {i : Int32} {M : Mem} {v : Option Nat} (h : jm_ldR kd r i M = some v) : ∃ (a n : Nat) (f : Nat → Option Nat), r = some a ∧ M.2.2 a = some (.inl (kd, n, .inr (.inr (.inr (.inr f))))) ∧ vp_in i n ∧ v = f i.toNatClampNeg := by
  unfold jm_ldR at h
  split at h
  · rename_i n f hx
    split at h
    · rename_i j hj
      cases h
      obtain ⟨a, h1, h2⟩ := jm_ar_some hx
      obtain ⟨h3, h4, -⟩ := jm_ix_some hj
      exact ⟨a, n, f, h1, h2, h3, by rw [h4]⟩
    · cases h
  · cases h
theorem jm_stI_some {kd : Nat} {r : Option Nat} {i x : Int32} {M : Mem} {F : Nat → Option CE} (h : jm_stI kd r i x M = some F) : ∃ (a n : Nat) (f : Nat → Int32), r = some a ∧ M.2.2 a = some (.inl (kd, n, .inl f)) ∧ vp_in i n ∧ F = va_up M.2.2 a (some (.inl (kd, n, .inl (upd f i.toNatClampNeg x)))) := by
  unfold jm_stI at h
  split at h
  · rename_i n f hx
    split at h
    · rename_i j hj
      obtain ⟨a, h1, h2⟩ := jm_ar_some hx
      obtain ⟨h3, h4, -⟩ := jm_ix_some hj
      subst h1
      unfold jm_sto at h
      cases h
      exact ⟨a, n, f, rfl, h2, h3, by rw [h4]⟩
    · cases h
  · cases h
theorem jm_stJ_some {kd : Nat} {r : Option Nat} {i : Int32} {x : Int64} {M : Mem} {F : Nat → Option CE} (h : jm_stJ kd r i x M = some F) : ∃ (a n : Nat) (f : Nat → Int64), r = some a ∧ M.2.2 a = some (.inl (kd, n, .inr (.inl f))) ∧ vp_in i n ∧ F = va_up M.2.2 a (some (.inl (kd, n, .inr (.inl (vp_updL f i.toNatClampNeg x))))) := by
  unfold jm_stJ at h
  split at h
  · rename_i n f hx
    split at h
    · rename_i j hj
      obtain ⟨a, h1, h2⟩ := jm_ar_some hx
      obtain ⟨h3, h4, -⟩ := jm_ix_some hj
      subst h1
      unfold jm_sto at h
      cases h
      exact ⟨a, n, f, rfl, h2, h3, by rw [h4]⟩
    · cases h
  · cases h
theorem jm_stR_some {kd : Nat} {cs : List Nat} {ka : Option Nat} {r : Option Nat} {i : Int32} {v : Option Nat} {M : Mem} {F : Nat → Option CE} (h : jm_stR kd cs ka r i v M = some F) : ∃ (a n : Nat) (f : Nat → Option Nat), r = some a ∧ M.2.2 a = some (.inl (kd, n, .inr (.inr (.inr (.inr f))))) ∧ vp_in i n ∧ jm_fit cs ka v M = true ∧ F = va_up M.2.2 a (some (.inl (kd, n, .inr (.inr (.inr (.inr (va_up f i.toNatClampNeg v))))))) := by
  unfold jm_stR at h
  split at h
  · rename_i n f hx
    split at h
    · rename_i j hj
      split at h
      · rename_i hf
        obtain ⟨a, h1, h2⟩ := jm_ar_some hx
        obtain ⟨h3, h4, -⟩ := jm_ix_some hj
        subst h1
        unfold jm_sto at h
        cases h
        exact ⟨a, n, f, rfl, h2, h3, hf, by rw [h4]⟩
      · cases h
    · cases h
  · cases h
def jm_FL (s : State) (args : Array Value) (own : String) (index c k : Nat) : Prop := ∃ (C : String) (T : u_T) (N : Nat), vwCl[c]? = some (C, T, N) ∧ (∀ w ∈ u_ws C T N, w ∈ lw_all) ∧ k < N ∧ ∃ ref : String, ((Cond.fieldLink own index ref (T k).2.1 (T k).2.2.1).before args s = true ∨ ∃ host : String, (Cond.fieldLinkNest own index ref (T k).2.1 (T k).2.2.1 host).before args s = true) ∧ (∀ x, s.fieldFound? (T k).1 (T k).2.1 (T k).2.2.1 = some x → s.fieldFound? ref (T k).2.1 (T k).2.2.1 = some x)
/-- a field that may be written: not final, or final and in its class's own constructor -/
def jm_FW (s : State) (args : Array Value) (meth : Method) (own : String) (index c k : Nat) (ty : FieldType) : Prop := ∃ (C : String) (T : u_T) (N : Nat), vwCl[c]? = some (C, T, N) ∧ (∀ w ∈ u_ws C T N, w ∈ lw_all) ∧ k < N ∧ (∃ ty0 : Nat → FieldType, ∀ k, k < N → parseFieldDescriptor (T k).2.2.1 = some (ty0 k)) ∧ (∀ a, a < N → ∀ b, b < N → a ≠ b → (T a).2.1 ≠ (T b).2.1) ∧ parseFieldDescriptor (T k).2.2.1 = some ty ∧ ∃ ref : String, (Cond.fieldLink own index ref (T k).2.1 (T k).2.2.1).before args s = true ∧ (∀ x, s.fieldFound? (T k).1 (T k).2.1 (T k).2.2.1 = some x → s.fieldFound? ref (T k).2.1 (T k).2.2.1 = some x) ∧ ((T k).2.2.2 = false ∨ ((T k).2.2.2 = true ∧ meth.name = "<init>" ∧ (T k).1 = own))
section JW
variable {p : Program} {l : Launch} {e : Env} {R : Room} {s : State} {m : MethodId} {args : Array Value} {below : List Frame} {meth : Method} {c : Code} {H : Heap} {locs : List Loc} {cells slots : Nat} {Q : State → Prop}
variable {cc : ByteArray} {pc : Nat} {ls : Array Slot} {rest : List Value} {g : GD} {b : Nat} {M0 Mf M : Mem}
theorem jw_aload_n {k : Fin 4} {i : Nat} {r : Option Nat} (hx : p.tables.exec = Jvm.exec) (hb : c.code = cc) (hdg : decode cc pc = .ok (.aload_n k, 1)) (hi : (k : Nat) = i) (hl : ls[i]? = some (.val (va_rf r))) (kk : W p l e R s m args below meth c H locs cells slots Q (F0 m (pc + 1) ls (va_rf r :: rest))) : W p l e R s m args below meth c H locs cells slots Q (F0 m pc ls rest) := by
  cases r with
  | none => exact lv_aload_nN hx hb hdg hi hl kk
  | some x => exact lv_aload_n hx hb hdg hi hl kk
theorem jw_aload {i : Nat} {r : Option Nat} (hx : p.tables.exec = Jvm.exec) (hb : c.code = cc) (hdg : decode cc pc = .ok (.aload i, 2)) (hl : ls[i]? = some (.val (va_rf r))) (kk : W p l e R s m args below meth c H locs cells slots Q (F0 m (pc + 2) ls (va_rf r :: rest))) : W p l e R s m args below meth c H locs cells slots Q (F0 m pc ls rest) := by
  cases r with
  | none => exact lv_aloadN hx hb hdg hl kk
  | some x => exact lv_aload hx hb hdg hl kk
theorem jw_astore_n {k : Fin 4} {i nL : Nat} {r : Option Nat} {lv lv' : List (Nat × Value)} (hx : p.tables.exec = Jvm.exec) (hb : c.code = cc) (hdg : decode cc pc = .ok (.astore_n k, 1)) (hi : (k : Nat) = i) (h : lv_has ls nL lv) (hn : i < nL) (hl : (i, va_rf r) :: lv.filter (fun q => !(q.1 == i) && !(q.1 + 1 == i && q.2.category == 2)) = lv') (kk : ∀ ls' : Array Slot, lv_has ls' nL lv' → W p l e R s m args below meth c H locs cells slots Q (F0 m (pc + 1) ls' rest)) : W p l e R s m args below meth c H locs cells slots Q (F0 m pc ls (va_rf r :: rest)) := by
  cases r with
  | none => exact lv_astore_nN hx hb hdg hi h hn hl kk
  | some x => exact lv_astore_n hx hb hdg hi h hn hl kk
theorem jw_astore {i nL : Nat} {r : Option Nat} {lv lv' : List (Nat × Value)} (hx : p.tables.exec = Jvm.exec) (hb : c.code = cc) (hdg : decode cc pc = .ok (.astore i, 2)) (h : lv_has ls nL lv) (hn : i < nL) (hl : (i, va_rf r) :: lv.filter (fun q => !(q.1 == i) && !(q.1 + 1 == i && q.2.category == 2)) = lv') (kk : ∀ ls' : Array Slot, lv_has ls' nL lv' → W p l e R s m args below meth c H locs cells slots Q (F0 m (pc + 2) ls' rest)) : W p l e R s m args below meth c H locs cells slots Q (F0 m pc ls (va_rf r :: rest)) := by
  cases r with
  | none => exact lv_astoreN hx hb hdg h hn hl kk
  | some x => exact lv_astore hx hb hdg h hn hl kk
theorem jw_get {own : String} {index k : Nat} {cs : List Nat} {r : Option Nat} {v : Value} (hx : p.tables.exec = Jvm.exec) (hb : c.code = cc) (hts : ∀ w ∈ lw_all, w.before args s = true) (hown : s.vm.findClass own = some m.cls) (hK : jm_KG g s) (hst : jm_St g b M0 Mf M s R H locs cells slots) (hf : ∀ q ∈ cs, jm_FL s args own index q k) (h1 : jm_fld cs k r M = some v) (hdg : decode cc pc = .ok (.getfield index, 3))
    (kk : W p l e R s m args below meth c H locs cells slots Q (F0 m (pc + 3) ls (v :: rest))) : W p l e R s m args below meth c H locs cells slots Q (F0 m pc ls (va_rf r :: rest)) := by
  obtain ⟨a, q, fs, rfl, h2, h3, h4⟩ := jm_fld_some h1
  obtain ⟨C, T, N, hc, hin, hk, ref, hl, hsame⟩ := hf q h3
  rcases hl with hl | ⟨host, hl⟩
  · exact va_get hx hb hts hin hown hK.1 (hst.1.one h2) 0 rfl hc k hk hl hsame h4 hdg kk
  · exact va_getN hx hb hts hin hown hK.1 (hst.1.one h2) 0 rfl hc k hk hl hsame h4 hdg kk
theorem jw_getI {own : String} {index k : Nat} {cs : List Nat} {r : Option Nat} {v : Int32} (hx : p.tables.exec = Jvm.exec) (hb : c.code = cc) (hts : ∀ w ∈ lw_all, w.before args s = true) (hown : s.vm.findClass own = some m.cls) (hK : jm_KG g s) (hst : jm_St g b M0 Mf M s R H locs cells slots) (hf : ∀ q ∈ cs, jm_FL s args own index q k) (h1 : jm_fI cs k r M = some v) (hdg : decode cc pc = .ok (.getfield index, 3))
    (kk : W p l e R s m args below meth c H locs cells slots Q (F0 m (pc + 3) ls (.int v :: rest))) : W p l e R s m args below meth c H locs cells slots Q (F0 m pc ls (va_rf r :: rest)) := jw_get hx hb hts hown hK hst hf (jm_fI_some h1) hdg kk
theorem jw_getJ {own : String} {index k : Nat} {cs : List Nat} {r : Option Nat} {v : Int64} (hx : p.tables.exec = Jvm.exec) (hb : c.code = cc) (hts : ∀ w ∈ lw_all, w.before args s = true) (hown : s.vm.findClass own = some m.cls) (hK : jm_KG g s) (hst : jm_St g b M0 Mf M s R H locs cells slots) (hf : ∀ q ∈ cs, jm_FL s args own index q k) (h1 : jm_fJ cs k r M = some v) (hdg : decode cc pc = .ok (.getfield index, 3))
    (kk : W p l e R s m args below meth c H locs cells slots Q (F0 m (pc + 3) ls (.long v :: rest))) : W p l e R s m args below meth c H locs cells slots Q (F0 m pc ls (va_rf r :: rest)) := jw_get hx hb hts hown hK hst hf (jm_fJ_some h1) hdg kk
theorem jw_getR {own : String} {index k : Nat} {cs : List Nat} {r v : Option Nat} (hx : p.tables.exec = Jvm.exec) (hb : c.code = cc) (hts : ∀ w ∈ lw_all, w.before args s = true) (hown : s.vm.findClass own = some m.cls) (hK : jm_KG g s) (hst : jm_St g b M0 Mf M s R H locs cells slots) (hf : ∀ q ∈ cs, jm_FL s args own index q k) (h1 : jm_fR cs k r M = some v) (hdg : decode cc pc = .ok (.getfield index, 3))
    (kk : W p l e R s m args below meth c H locs cells slots Q (F0 m (pc + 3) ls (va_rf v :: rest))) : W p l e R s m args below meth c H locs cells slots Q (F0 m pc ls (va_rf r :: rest)) := jw_get hx hb hts hown hK hst hf (jm_fR_some h1) hdg kk
theorem jw_put {own : String} {index k : Nat} {cs : List Nat} {ty : FieldType} {r : Option Nat} {v : Value} {F : Nat → Option CE} (hx : p.tables.exec = Jvm.exec) (hb : c.code = cc) (hts : ∀ w ∈ lw_all, w.before args s = true) (hown : s.vm.findClass own = some m.cls) (hK : jm_KG g s) (hst : jm_St g b M0 Mf M s R H locs cells slots) (hf : ∀ q ∈ cs, jm_FW s args meth own index q k ty) (h1 : jm_put cs k v r M = some F) (hn : narrow ty v = v) (hfit : fits ty v = true) (hdg : decode cc pc = .ok (.putfield index, 3))
    (kk : ∀ (H1 : Heap) (locs1 : List Loc), jm_St g b M0 Mf (M.1, M.2.1, F) s R H1 locs1 cells slots → W p l e R s m args below meth c H1 locs1 cells slots Q (F0 m (pc + 3) ls rest)) : W p l e R s m args below meth c H locs cells slots Q (F0 m pc ls (v :: va_rf r :: rest)) := by
  obtain ⟨a, q0, fs, rfl, h2, h3, h4, rfl⟩ := jm_put_some h1
  obtain ⟨C, T, N, hc, hin, hk, ⟨ty0, hty⟩, hnm, hd, ref, hlink, hsame, hfin⟩ := hf q0 h3
  have hap := va_apart (own := own) hts hin ty0 hty hnm hK.1 hc
  obtain ⟨r1, g1, cell, q1, q2, q3, q4⟩ := (hst.1.2.2 a _ h2).2
  have hr : r1 = (C, T, N) := Option.some.inj (g1.symm.trans hc)
  subst hr
  obtain ⟨hS, hfc, kC, hkC, hkind⟩ := hK.1.1 q0 _ hc
  obtain ⟨cf, kf, fi, f, hi, hsl⟩ := hS k hk
  have hlay := hts _ (hin _ (u_in_lay hk))
  unfold u_lay at hlay
  have hst2 := (u_facts hfc hkC (u_lays hts hin hk) hi).1
  have fin : ∀ (H' : Heap), H'[a]? = some (cell.setSlot f.slot v) → H'.size = H.size → (∀ q, q ≠ a → H'[q]? = H[q]?) → W p l e R s m args below meth c H' (locs ++ [⟨a, f.slot⟩]) cells slots Q (F0 m (pc + 3) ls rest) := by
    intro H' e1 e2 e3
    rw [hsl] at e1 ⊢
    exact kk H' _ (hst.set h2 ⟨_, hc, t_OB.to (V := updV (vp_V fs) k v) ⟨_, e1, q2, q3, t_set q4 hap hk v⟩ (fun j _ => vp_updV_set h4 v j)⟩ e2 e3)
  rcases hfin with hfin | ⟨hfin, hinit, hdecl⟩
  · rw [if_neg (by rw [hfin]; decide)] at hlay
    have h6 := u_store hfc hkC hkind hlay hi hd hn hfit
    exact W.putK hx hb (f := f) ⟨hown, hlink, ⟨_, _, _, hsame _ hi⟩, hst2⟩ (by rw [q2]; exact h6) q1 q3 (by rw [hsl]; exact k2_hasslot (q4 k hk)) rfl rfl hdg fin
  · rw [if_pos hfin] at hlay
    have hcf : m.cls = cf := by
      obtain ⟨_, _, c', _, _, _, -, -, hf', -, -, -, hown2, -⟩ := Cond.laysFinal_spec hlay
      have e1 : c' = cf := by have := hi.symm.trans hf'; simp at this; exact this.1.symm
      rw [hdecl] at hown2
      rw [← e1]; exact Option.some.inj (hown.symm.trans hown2)
    have h6 := u_fits hfc hkC hkind (Or.inr hlay) hi hd hn hfit
    exact W.putFinK hx hb hown hlink (hsame _ hi) hst2 hcf hinit (by rw [q2]; exact h6) q1 q3 (by rw [hsl]; exact k2_hasslot (q4 k hk)) rfl rfl hdg fin
theorem jw_alen {kd : Nat} {t : FieldType} {r : Option Nat} {v : Int32} (hx : p.tables.exec = Jvm.exec) (hb : c.code = cc) (hK : jm_KG g s) (hst : jm_St g b M0 Mf M s R H locs cells slots) (ht : jm_ty[kd]? = some t) (h1 : jm_len kd r M = some v) (hdg : decode cc pc = .ok (.arraylength, 1))
    (kk : W p l e R s m args below meth c H locs cells slots Q (F0 m (pc + 1) ls (.int v :: rest))) : W p l e R s m args below meth c H locs cells slots Q (F0 m pc ls (va_rf r :: rest)) := by
  obtain ⟨a, x, rfl, h2, h3⟩ := jm_len_some h1
  exact va_alen hx hb hK.1 (hst.1.one h2) 0 kd rfl (jm_tys_at g ht) h3 hdg kk
theorem jw_iald {r : Option Nat} {i v : Int32} (hx : p.tables.exec = Jvm.exec) (hb : c.code = cc) (hK : jm_KG g s) (hst : jm_St g b M0 Mf M s R H locs cells slots) (h1 : jm_ldI 0 r i M = some v) (hdg : decode cc pc = .ok (.iaload, 1))
    (kk : W p l e R s m args below meth c H locs cells slots Q (F0 m (pc + 1) ls (.int v :: rest))) : W p l e R s m args below meth c H locs cells slots Q (F0 m pc ls (.int i :: va_rf r :: rest)) := by
  obtain ⟨a, n, f, rfl, h2, h3, rfl⟩ := jm_ldI_some h1
  exact va_iald hx hb hK.1 (hst.1.one h2) 0 0 rfl (jm_tys_at g rfl) h3 hdg kk
theorem jw_bald {r : Option Nat} {i v : Int32} (hx : p.tables.exec = Jvm.exec) (hb : c.code = cc) (hK : jm_KG g s) (hst : jm_St g b M0 Mf M s R H locs cells slots) (h1 : jm_ldI 1 r i M = some v) (hdg : decode cc pc = .ok (.baload, 1))
    (kk : W p l e R s m args below meth c H locs cells slots Q (F0 m (pc + 1) ls (.int v :: rest))) : W p l e R s m args below meth c H locs cells slots Q (F0 m pc ls (.int i :: va_rf r :: rest)) := by
  obtain ⟨a, n, f, rfl, h2, h3, rfl⟩ := jm_ldI_some h1
  exact va_bald hx hb hK.1 (hst.1.one h2) 0 1 rfl (jm_tys_at g rfl) h3 hdg kk
theorem jw_zald {r : Option Nat} {i v : Int32} (hx : p.tables.exec = Jvm.exec) (hb : c.code = cc) (hK : jm_KG g s) (hst : jm_St g b M0 Mf M s R H locs cells slots) (h1 : jm_ldI 3 r i M = some v) (hdg : decode cc pc = .ok (.baload, 1))
    (kk : W p l e R s m args below meth c H locs cells slots Q (F0 m (pc + 1) ls (.int v :: rest))) : W p l e R s m args below meth c H locs cells slots Q (F0 m pc ls (.int i :: va_rf r :: rest)) := by
  obtain ⟨a, n, f, rfl, h2, h3, rfl⟩ := jm_ldI_some h1
  exact va_zald hx hb hK.1 (hst.1.one h2) 0 3 rfl (jm_tys_at g rfl) h3 hdg kk
theorem jw_lald {r : Option Nat} {i : Int32} {v : Int64} (hx : p.tables.exec = Jvm.exec) (hb : c.code = cc) (hK : jm_KG g s) (hst : jm_St g b M0 Mf M s R H locs cells slots) (h1 : jm_ldJ 2 r i M = some v) (hdg : decode cc pc = .ok (.laload, 1))
    (kk : W p l e R s m args below meth c H locs cells slots Q (F0 m (pc + 1) ls (.long v :: rest))) : W p l e R s m args below meth c H locs cells slots Q (F0 m pc ls (.int i :: va_rf r :: rest)) := by
  obtain ⟨a, n, f, rfl, h2, h3, rfl⟩ := jm_ldJ_some h1
  exact va_lald hx hb hK.1 (hst.1.one h2) 0 2 rfl (jm_tys_at g rfl) h3 hdg kk
theorem jw_aald {kd : Nat} {t : FieldType} {r v : Option Nat} {i : Int32} (hx : p.tables.exec = Jvm.exec) (hb : c.code = cc) (hK : jm_KG g s) (hst : jm_St g b M0 Mf M s R H locs cells slots) (ht : jm_ty[kd]? = some t) (hrf : t.isReference = true) (h1 : jm_ldR kd r i M = some v) (hdg : decode cc pc = .ok (.aaload, 1))
    (kk : W p l e R s m args below meth c H locs cells slots Q (F0 m (pc + 1) ls (va_rf v :: rest))) : W p l e R s m args below meth c H locs cells slots Q (F0 m pc ls (.int i :: va_rf r :: rest)) := by
  obtain ⟨a, n, f, rfl, h2, h3, rfl⟩ := jm_ldR_some h1
  have hlt : i.toNatClampNeg < n := Nat.not_le.mp fun q => h3 (Or.inr q)
  exact W.aald (v := va_rf (f i.toNatClampNeg)) (ty := t) hx hb ((hst.1.one h2) 0 _ rfl) ((hK.1.2 kd _ (jm_tys_at g ht)).1 n (fun j => va_rf (f j))) hrf (fun q => by cases q) (by show ¬ (i < 0 ∨ (arrV _ _ _).slots.size ≤ _); rw [arrV_size]; exact h3) (by show (arrV _ _ _).slots[_]? = _; rw [arrV_read _ _ hlt]) rfl rfl hdg kk
theorem jw_iast {r : Option Nat} {i x : Int32} {F : Nat → Option CE} (hx : p.tables.exec = Jvm.exec) (hb : c.code = cc) (hK : jm_KG g s) (hst : jm_St g b M0 Mf M s R H locs cells slots) (h1 : jm_stI 0 r i x M = some F) (hdg : decode cc pc = .ok (.iastore, 1))
    (kk : ∀ (H1 : Heap) (locs1 : List Loc), jm_St g b M0 Mf (M.1, M.2.1, F) s R H1 locs1 cells slots → W p l e R s m args below meth c H1 locs1 cells slots Q (F0 m (pc + 1) ls rest)) : W p l e R s m args below meth c H locs cells slots Q (F0 m pc ls (.int x :: .int i :: va_rf r :: rest)) := by
  obtain ⟨a, n, f, rfl, h2, h3, rfl⟩ := jm_stI_some h1
  refine W.iast hx hb ((hst.1.one h2) 0 _ rfl) ((hK.1.2 0 _ (jm_tys_at g rfl)).1 n (fun j => .int (f j))) (fun q => by cases q) (by show ¬ (i < 0 ∨ (arrV _ _ _).slots.size ≤ _); rw [arrV_size]; exact h3) rfl rfl hdg fun H1 e z oq => ?_
  refine kk H1 _ (hst.set h2 ?_ z oq)
  show H1[a]? = some (vp_cell _ _)
  rw [e]
  rw [vp_cell_i, vp_cell_i, arrV_store]
  congr 2
  funext q
  by_cases hq : q = i.toNatClampNeg
  · subst hq
    simp [updV, upd]
  · simp [updV, upd, hq]
theorem jw_bast {r : Option Nat} {i x : Int32} {F : Nat → Option CE} (hx : p.tables.exec = Jvm.exec) (hb : c.code = cc) (hK : jm_KG g s) (hst : jm_St g b M0 Mf M s R H locs cells slots) (h1 : jm_stI 1 r i x.toInt8.toInt32 M = some F) (hdg : decode cc pc = .ok (.bastore, 1))
    (kk : ∀ (H1 : Heap) (locs1 : List Loc), jm_St g b M0 Mf (M.1, M.2.1, F) s R H1 locs1 cells slots → W p l e R s m args below meth c H1 locs1 cells slots Q (F0 m (pc + 1) ls rest)) : W p l e R s m args below meth c H locs cells slots Q (F0 m pc ls (.int x :: .int i :: va_rf r :: rest)) := by
  obtain ⟨a, n, f, rfl, h2, h3, rfl⟩ := jm_stI_some h1
  refine W.bast hx hb ((hst.1.one h2) 0 _ rfl) ((hK.1.2 1 _ (jm_tys_at g rfl)).1 n (fun j => .int (f j))) (fun q => by cases q) (by show ¬ (i < 0 ∨ (arrV _ _ _).slots.size ≤ _); rw [arrV_size]; exact h3) rfl rfl hdg fun H1 e z oq => ?_
  refine kk H1 _ (hst.set h2 ?_ z oq)
  show H1[a]? = some (vp_cell _ _)
  rw [e]
  rw [vp_cell_i, vp_cell_i, arrV_store]
  congr 2
  funext q
  by_cases hq : q = i.toNatClampNeg
  · subst hq
    simp [updV, upd, narrow]
  · simp [updV, upd, hq]
theorem jw_zast {r : Option Nat} {i x : Int32} {F : Nat → Option CE} (hx : p.tables.exec = Jvm.exec) (hb : c.code = cc) (hK : jm_KG g s) (hst : jm_St g b M0 Mf M s R H locs cells slots) (h1 : jm_stI 3 r i x M = some F) (hnar : narrow .boolean (.int x) = .int x) (hdg : decode cc pc = .ok (.bastore, 1))
    (kk : ∀ (H1 : Heap) (locs1 : List Loc), jm_St g b M0 Mf (M.1, M.2.1, F) s R H1 locs1 cells slots → W p l e R s m args below meth c H1 locs1 cells slots Q (F0 m (pc + 1) ls rest)) : W p l e R s m args below meth c H locs cells slots Q (F0 m pc ls (.int x :: .int i :: va_rf r :: rest)) := by
  obtain ⟨a, n, f, rfl, h2, h3, rfl⟩ := jm_stI_some h1
  refine W.zast hx hb ((hst.1.one h2) 0 _ rfl) ((hK.1.2 3 _ (jm_tys_at g rfl)).1 n (fun j => .int (f j))) (fun q => by cases q) (by show ¬ (i < 0 ∨ (arrV _ _ _).slots.size ≤ _); rw [arrV_size]; exact h3) rfl rfl hdg fun H1 e z oq => ?_
  refine kk H1 _ (hst.set h2 ?_ z oq)
  show H1[a]? = some (vp_cell _ _)
  rw [e, hnar]
  rw [vp_cell_i, vp_cell_i, arrV_store]
  congr 2
  funext q
  by_cases hq : q = i.toNatClampNeg
  · subst hq
    simp [updV, upd]
  · simp [updV, upd, hq]
theorem jw_last {r : Option Nat} {i : Int32} {x : Int64} {F : Nat → Option CE} (hx : p.tables.exec = Jvm.exec) (hb : c.code = cc) (hK : jm_KG g s) (hst : jm_St g b M0 Mf M s R H locs cells slots) (h1 : jm_stJ 2 r i x M = some F) (hdg : decode cc pc = .ok (.lastore, 1))
    (kk : ∀ (H1 : Heap) (locs1 : List Loc), jm_St g b M0 Mf (M.1, M.2.1, F) s R H1 locs1 cells slots → W p l e R s m args below meth c H1 locs1 cells slots Q (F0 m (pc + 1) ls rest)) : W p l e R s m args below meth c H locs cells slots Q (F0 m pc ls (.long x :: .int i :: va_rf r :: rest)) := by
  obtain ⟨a, n, f, rfl, h2, h3, rfl⟩ := jm_stJ_some h1
  refine W.last hx hb ((hst.1.one h2) 0 _ rfl) ((hK.1.2 2 _ (jm_tys_at g rfl)).1 n (fun j => .long (f j))) (fun q => by cases q) (by show ¬ (i < 0 ∨ (arrV _ _ _).slots.size ≤ _); rw [arrV_size]; exact h3) rfl rfl hdg fun H1 e z oq => ?_
  refine kk H1 _ (hst.set h2 ?_ z oq)
  show H1[a]? = some (vp_cell _ _)
  rw [e]
  rw [vp_cell_l, vp_cell_l, arrV_store]
  congr 2
  funext q
  by_cases hq : q = i.toNatClampNeg
  · subst hq
    simp [updV, vp_updL]
  · simp [updV, vp_updL, hq]
theorem jw_newa {kd N' q0 : Nat} {ty : FieldType} {atype : ArrayType} {n : Int32} {a0 : vp_A} (hx : p.tables.exec = Jvm.exec) (hb : c.code = cc) (harr : (Cond.arrayClass (newarray.typeOf atype)).before args s = true) (hty : newarray.typeOf atype = ty) (hK : jm_KG g s) (hst : jm_St g b M0 Mf M s R H locs cells slots) (ht : jm_ty[kd]? = some ty) (ha : ∀ cA : ClassId, vp_cell cA a0 = arrV cA N' (fun _ => defaultValue ty)) (hN0 : a0.1 = N') (hnr : va_RA s (g.2.2 kd) ty → s.vm.findClass ("[" ++ ty.toString) = some (g.2.2 kd)) (hn : ¬ n < 0) (hN : n.toNatClampNeg = N') (hbytes : N' * componentBytes ty ≤ 536870912) (hM : jm_le (jm_new (.inl (kd, a0)) M) Mf) (hq : q0 = M.1) (hdg : decode cc pc = .ok (.newarray atype, 2))
    (kk : ∀ (H1 : Heap) (cells1 slots1 : Nat), jm_St g b M0 Mf (jm_new (.inl (kd, a0)) M) s R H1 locs cells1 slots1 → W p l e R s m args below meth c H1 locs cells1 slots1 Q (F0 m (pc + 2) ls (va_rf (some q0) :: rest))) : W p l e R s m args below meth c H locs cells slots Q (F0 m pc ls (.int n :: rest)) := by
  subst hty
  subst hq
  have hroom := hst.room hM
  have hz : jm_sz (.inl (kd, a0)) = N' := hN0
  rw [hz] at hroom
  refine va_newaK hx hb harr rfl hdg rfl hn hN hbytes hroom.1 hroom.2 hst.1.1 fun H1 cA e1 z1 o1 hAr hNm => ?_
  have hcA : cA = g.2.2 kd := by
    have h1 := hnr (hK.1.2 kd _ (jm_tys_at g ht)).2
    exact Option.some.inj (hNm.symm.trans h1)
  subst hcA
  refine kk H1 _ _ (hst.new ?_ (by rw [z1, hst.1.1]) (fun q hq => o1 q (by rw [← hst.1.1]; exact hq)) hz)
  show H1[H.size]? = some (vp_cell _ _)
  rw [ha, hst.1.1]
  exact e1
theorem jw_new {own : String} {index ci N q0 : Nat} {C : String} {T : u_T} {fs : List Value} (hx : p.tables.exec = Jvm.exec) (hb : c.code = cc) (hts : ∀ w ∈ lw_all, w.before args s = true) (hin : ∀ w ∈ u_ws C T N, w ∈ lw_all) (ty : Nat → FieldType) (hty : ∀ k, k < N → parseFieldDescriptor (T k).2.2.1 = some (ty k)) (hown : s.vm.findClass own = some m.cls) (hcl : (Cond.classLink own index C).before args s = true) (hinst : (Cond.instantiable C N).before args s = true) (hini : (Cond.initialized C).before args s = true)
    (hK : jm_KG g s) (hst : jm_St g b M0 Mf M s R H locs cells slots) (hc : vwCl[ci]? = some (C, T, N)) (hfs : ∀ j, j < N → defaultValue (ty j) = vp_V fs j) (hlen : fs.length = N) (hM : jm_le (jm_new (.inr (ci, fs)) M) Mf) (hq : q0 = M.1) (hdg : decode cc pc = .ok (.new index, 3))
    (kk : ∀ (H1 : Heap) (cells1 slots1 : Nat), jm_St g b M0 Mf (jm_new (.inr (ci, fs)) M) s R H1 locs cells1 slots1 → W p l e R s m args below meth c H1 locs cells1 slots1 Q (F0 m (pc + 3) ls (va_rf (some q0) :: rest))) : W p l e R s m args below meth c H locs cells slots Q (F0 m pc ls rest) := by
  subst hq
  have hKn := hK.1.1 ci _ hc
  have hroom := hst.room hM
  have hz : jm_sz (.inr (ci, fs)) = N := hlen
  rw [hz] at hroom
  refine W.newcK hx hb hown hcl hinst hini rfl hdg hroom.1 hroom.2 hKn.2.1 hst.1.1 fun H1 kC hkC e1 z1 o1 => ?_
  refine kk H1 _ _ (hst.new ⟨_, hc, ?_⟩ (by rw [z1, hst.1.1]) (fun q hq => o1 q (by rw [← hst.1.1]; exact hq)) hz)
  have h5 := (u_born ty hts hin hKn hkC e1 hty).to hfs
  rw [← hst.1.1] at h5
  exact h5
end JW
