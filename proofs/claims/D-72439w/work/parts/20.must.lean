/-! MUST: it returns, or makes a Fault and throws it -/
section JMUST
variable {p : Program} {l : Launch} {e : Env} {R : Room} {s : State} {m : MethodId} {args : Array Value} {below : List Frame} {meth : Method} {c : Code} {H : Heap} {locs : List Loc} {cells slots : Nat} {Q : State → Prop}
variable {cc : ByteArray} {pc : Nat} {ls : Array Slot} {rest : List Value} {g : GD} {b : Nat} {M0 Mf M : Mem}
variable {own : String} {nL : Nat} {rt : Option FieldType}
theorem jw_newF {own : String} {index q0 : Nat} (hx : p.tables.exec = Jvm.exec) (hb : c.code = cc) (hts : ∀ w ∈ lw_all, w.before args s = true) (hown : s.vm.findClass own = some m.cls) (hcl : (Cond.classLink own index RX3).before args s = true)
    (hK : jm_KG g s) (hst : jm_St g b M0 Mf M s R H locs cells slots) (hM : jm_le (jm_new (.inr (3, jm_fz)) M) Mf) (hq : q0 = M.1) (hdg : decode cc pc = .ok (.new index, 3))
    (kk : ∀ (H1 : Heap) (cells1 slots1 : Nat), (∃ kX : Class, s.vm.classes[g.1 3]? = some kX ∧ H1[q0]? = some (freshCell (g.1 3) kX)) → jm_St g b M0 Mf (jm_new (.inr (3, jm_fz)) M) s R H1 locs cells1 slots1 → W p l e R s m args below meth c H1 locs cells1 slots1 Q (F0 m (pc + 3) ls (va_rf (some q0) :: rest))) : W p l e R s m args below meth c H locs cells slots Q (F0 m pc ls rest) := by
  subst hq
  have hKn := hK.1.1 3 _ rfl
  have hroom := hst.room hM
  have hz : jm_sz (.inr (3, jm_fz)) = 8 := rfl
  rw [hz] at hroom
  refine W.newcK hx hb hown hcl (hts _ q175) (hts _ q77) rfl hdg hroom.1 hroom.2 hKn.2.1 hst.1.1 fun H1 kC hkC e1 z1 o1 => ?_
  refine kk H1 _ _ ⟨kC, hkC, e1⟩ (hst.new ⟨_, rfl, ?_⟩ (by rw [z1, hst.1.1]) (fun q hq => o1 q (by rw [← hst.1.1]; exact hq)) hz)
  have h5 := (u_born tyX3F hts in_X3F hKn hkC e1 tyX3F_ok).to (V' := vp_V jm_fz) (fun j hj => by match j, hj with | 0, _ => rfl | 1, _ => rfl)
  rw [← hst.1.1] at h5
  exact h5
theorem jw_IF {index maxL fr lo n a sa : Nat} {y : MethodName} {bytes : ByteArray} {As : List Value} {M1 : Mem} {res : Option Value} {st : List Value} {rv : Option Nat} (hM : Met l y (ws_ y bytes maxL none) (jm_rm fr lo M M1) (jm_PcF g b sa a (.ref a :: As) M) (jm_Q g b res M1) (M1.1 - M.1) (M1.2.1 - M.2.1) (fun q => b ≤ q)) (C0 : jm_Cx p s m args meth c cc nL rt own) (hK : jm_KG g s) (hKX : jm_KX b sa s s.heap) (hst : jm_St g b M0 Mf M s R H locs cells slots) (hle : jm_le M M1) (hle2 : jm_le M1 Mf)
    (hF : ∃ kX : Class, s.vm.classes[g.1 3]? = some kX ∧ H[a]? = some (freshCell (g.1 3) kX))
    (h1 : Cond.methodLink own index y ∈ lw_all) (h2 : Cond.instanceMethod y ∈ lw_all) (h3 : Cond.initialized y.cls ∈ lw_all) (h4 : Cond.code y bytes maxL none ∈ lw_all) (hy1 : y.name = "<init>") (hd : y.cls ≠ "java/lang/invoke/MethodHandle" ∧ y.cls ≠ "java/lang/invoke/VarHandle" ∧ (parseMethodDescriptor y.desc).map (fun d => d.parameters.length) = some n) (hR : fr + 1 ≤ R.frames ∧ 8 + (maxL + 11) + lo ≤ R.locals)
    (hv : rv = some a) (hn : As.length = n) (hsz : ls.size = nL) (hstk : st = As.reverse ++ va_rf rv :: rest) (hW : (rest.map fun v => v.category).sum ≤ 8) (hdg : decode cc pc = .ok (.invokespecial index, 3))
    (kk : ∀ (H1 : Heap) (locs1 : List Loc) (cells1 slots1 : Nat), jm_St g b M0 Mf M1 s R H1 locs1 cells1 slots1 → W p l e R s m args below meth c H1 locs1 cells1 slots1 Q (F0 m (pc + 3) ls (res.toList ++ rest))) : W p l e R s m args below meth c H locs cells slots Q (F0 m pc ls st) := by
  obtain ⟨hx, hb, hml, hown, hts, -, -⟩ := C0
  subst hstk
  subst hv
  refine jw_back (va_runI (rm := jm_rm fr lo M M1) ⟨hx, hb, hml, hown, hts⟩ hM (cwI n hts (lw_meth h4) rfl rfl rfl (hts _ h3) (hts _ h1) (hts _ h2) hy1 hd hR) ⟨jm_blindF, fun U hU hW => ⟨rfl, ⟨⟨hK.moved hW, by rw [hU]; exact hst.1⟩, by rw [hU]; exact (hKX.kept (fun q h1 h2 => hst.2.1.2.1 q h1 h2)).warm hW⟩, ?_⟩⟩ rfl hn hsz rfl (lv_room hW) hdg (hst.fits hle hle2)) hle hst kk
  obtain ⟨kX, hk, hc⟩ := hF
  obtain ⟨k2, hk2, ek⟩ := hW.alike.2.2 _ _ hk
  refine ⟨k2, hk2, ?_⟩
  rw [hU, hc, ek]
end JMUST
def jf_X2_must (N : Nat) (a0 : Nat) (v1 v2 : Int32) : jm_P (Unit ⊕ Nat) :=
  if v1 = 0 then (
    jm_al (.inr (3, jm_fz)) fun q =>
    jm_rd (jm_fI [2] 2 (some a0)) fun x =>
    jm_bd (jf_X3_init q v2 x) fun _ =>
    jm_ret (.inr q))
  else
    jm_ret (.inl ())
/-- the thrown object is a Fault -/
def jm_flt (q : Nat) (M : Mem) : Option Unit := match M.2.2 q with
  | some (.inr o) => if o.1 = 3 then some () else none
  | _ => none
theorem jm_flt_some {q : Nat} {M : Mem} {u : Unit} (h : jm_flt q M = some u) : ∃ fs, M.2.2 q = some (.inr (3, fs)) := by
  unfold jm_flt at h
  split at h
  · rename_i o ho
    by_cases h3 : o.1 = 3
    · obtain ⟨o1, o2⟩ := o
      cases h3
      exact ⟨o2, ho⟩
    · rw [if_neg h3] at h; cases h
  · cases h
/-- a call that may throw: t when it throws, k when it returns -/
def jm_bx {α β : Type} (f : jm_P (α ⊕ Nat)) (t : Nat → jm_P β) (k : α → jm_P β) : jm_P β := jm_bd f fun x => match x with
  | .inl v => k v
  | .inr q => jm_rd (jm_flt q) fun _ => t q
theorem jm_bx_some {α β : Type} {f : jm_P (α ⊕ Nat)} {t : Nat → jm_P β} {k : α → jm_P β} {M M' : Mem} {r : β} (h : (jm_bx f t k).1 M = some (r, M')) :
    ∃ (y : α ⊕ Nat) (M1 : Mem), f.1 M = some (y, M1) ∧ jm_le M1 M' ∧ ((∃ q, y = .inr q ∧ (∃ fs, M1.2.2 q = some (.inr (3, fs))) ∧ (t q).1 M1 = some (r, M')) ∨ (∃ v, y = .inl v ∧ (k v).1 M1 = some (r, M'))) := by
  obtain ⟨y, M1, h1, h2⟩ := jm_bd_some h
  refine ⟨y, M1, h1, jm_mono h2, ?_⟩
  cases y with
  | inl v => exact Or.inr ⟨v, rfl, h2⟩
  | inr q =>
    obtain ⟨u, h3, h4⟩ := jm_rd_some h2
    exact Or.inl ⟨q, rfl, jm_flt_some h3, h4⟩
def jm_xo {α : Type} (f : α → Option Value) : α ⊕ Nat → Option Value ⊕ Nat
  | .inl v => .inl (f v)
  | .inr q => .inr q
theorem fm_X2_19 {g : GD} {s : State} {args : Array Value} (hts : ∀ w ∈ lw_all, w.before args s = true) (hK : jm_KG g s) : ∀ q ∈ ([2] : List Nat), jm_FL s args RX2 19 q 2 := by
  intro q hq
  simp only [List.mem_cons, List.not_mem_nil, or_false] at hq
  subst hq
  exact ⟨RX2, TX2, 3, rfl, in_X2, by decide, "ChainParts$Reader", Or.inl (hts _ q149), fun _ h => h⟩
theorem jm_fz_init {q : Nat} {v x : Int32} {M M1 : Mem} {u : Unit} (h : (jf_X3_init q v x).1 M = some (u, M1)) : ∃ fs, M1.2.2 q = some (.inr (3, fs)) := by
  unfold jf_X3_init at h
  obtain ⟨F1, h1, h⟩ := jm_wr_some h
  obtain ⟨F2, h2, h⟩ := jm_wr_some h
  obtain ⟨-, rfl⟩ := jm_ret_some h
  obtain ⟨a, q0, fs, e1, e2, e3, e4, rfl⟩ := jm_put_some h2
  cases e1
  have e5 : q0 = 3 := by simpa using e3
  subst e5
  exact ⟨_, by show va_up _ q _ q = _; unfold va_up; rw [if_pos rfl]⟩
set_option maxHeartbeats 4000000 in
set_option maxRecDepth 100000 in
theorem jt_X2_must (l : Launch) (hl0 : l.stackTraces = false) (g : GD) (b sa : Nat) (N : Nat) (a0 : Nat) (v1 v2 : Int32) (M M' : Mem) (r : Unit ⊕ Nat) (hf : (jf_X2_must N a0 v1 v2).1 M = some (r, M')) :
    jm_MX l g b sa yX2_must (ws_ yX2_must cX2_must 3 none) 5 90 [va_rf (some a0), .int v1, .int v2] M M' (jm_xo (fun _ => none) r) := by
  refine jm_startX (by decide) (jm_mono hf) (by rw [lg_sl_r, lg_sl_i, lg_sl_i, lg_sl_n]; exact Nat.le_of_ble_eq_true rfl) ?_
  intro p e s m args below meth c ls C0 hin hK hKX hst hl hto
  obtain ⟨hx, hb, hml, hown, hts, hr, hlk⟩ := id C0
  have hown : s.vm.findClass RX2 = some m.cls := hown
  have C0 : jm_Cx p s m args meth c cX2_must 3 none RX2 := C0
  rw [lv_args_r, lv_args_i, lv_args_i, lv_args_n] at hl
  have hl : lv_has ls 3 [(0, va_rf (some a0)), (1, .int v1), (2, .int v2)] := hl
  unfold jf_X2_must at hf
  refine lv_iload_n hx hb dX2_must_0 rfl (lv_at hl 1 rfl) ?_
  refine lv_if_ne (tgt := 17) hx hb dX2_must_1 (by decide) (fun hc => ?_) (fun hc => ?_)
  · rw [if_neg hc] at hf
    obtain ⟨rfl, rfl⟩ := jm_ret_some hf
    exact jw_vret C0 hst dX2_must_17
  · rw [if_pos hc] at hf
    obtain ⟨q1, hq1, hf⟩ := jm_al_some hf
    refine jw_newF hx hb hts hown (hts _ q174) hK hst (jm_le_tr (jm_mono hf) jm_le_rf) hq1 dX2_must_4 (fun H cells slots hF hst => ?_)
    have hM : (jm_new (.inr (3, jm_fz)) M).2.2 q1 = some (.inr (3, jm_fz)) := by
      subst hq1
      show va_up _ _ _ _ = _
      unfold va_up
      rw [if_pos rfl]
    generalize jm_new (.inr (3, jm_fz)) M = Mm1 at hf hst hM
    refine lv_dup hx hb dX2_must_7 (va_rf_cat _) ?_
    refine lv_iload_n hx hb dX2_must_8 rfl (lv_at hl 2 rfl) ?_
    refine jw_aload_n (r := (some a0)) hx hb dX2_must_9 rfl (lv_at hl 0 rfl) ?_
    obtain ⟨x1, h2, hf⟩ := jm_rd_some hf
    refine jw_getI hx hb hts hown hK hst (fm_X2_19 hts hK) h2 dX2_must_10 ?_
    obtain ⟨u, Mm2, h3, hf⟩ := jm_bd_some hf
    refine jw_IF (As := [.int v2, .int x1]) (rest := [va_rf (some q1)]) (rv := some q1) (jt_X3_init l hl0 g b sa q1 v2 x1 Mm1 Mm2 u hM h3) C0 hK hKX hst (jm_mono h3) (jm_le_tr (jm_mono hf) jm_le_rf) hF q212 q213 q77 q214 rfl (by decide +kernel : yX3_init.cls ≠ "java/lang/invoke/MethodHandle" ∧ yX3_init.cls ≠ "java/lang/invoke/VarHandle" ∧ (parseMethodDescriptor yX3_init.desc).map (fun d => d.parameters.length) = some 2) ⟨Nat.le_of_ble_eq_true rfl, Nat.le_of_ble_eq_true rfl⟩ rfl rfl hl.1 rfl (by rw [cs_r, cs_n]; exact Nat.le_of_ble_eq_true rfl) dX2_must_13 (fun H locs cells slots hst => ?_)
    refine W.eq (g2 := F0 m 16 ls [va_rf (some q1)]) rfl ?_
    obtain ⟨rfl, rfl⟩ := jm_ret_some hf
    obtain ⟨fs, hq⟩ := jm_fz_init h3
    exact jw_athrow hx hb dX2_must_16 (jw_out hK hst hq (fun z hz => absurd hz (hto z)) hlk)
