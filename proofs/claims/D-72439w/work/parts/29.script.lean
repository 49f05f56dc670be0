/-! the script's array: older than the base, never written -/
section JSCR
variable {p : Program} {l : Launch} {e : Env} {R : Room} {s : State} {m : MethodId} {args : Array Value} {below : List Frame} {meth : Method} {c : Code} {H : Heap} {locs : List Loc} {cells slots : Nat} {Q : State → Prop}
variable {cc : ByteArray} {pc : Nat} {ls : Array Slot} {rest : List Value} {g : GD} {b : Nat} {M0 Mf M : Mem}
theorem jw_sld (hexec : p.tables.exec = Jvm.exec) (hb : c.code = cc) {sc L : Nat} {xs : Nat → Int32} {r : Option Nat} (hr : r = some sc) (hX : va_X sc L xs s s.heap) (hbl : sc < s.heap.size) (hbA : ¬ b ≤ sc) (hst : jm_St g b M0 Mf M s R H locs cells slots) {i : Int32} (hin : vp_in i L) (hdg : decode cc pc = .ok (.iaload, 1))
    (kk : W p l e R s m args below meth c H locs cells slots Q (F0 m (pc + 1) ls (.int (xs i.toNatClampNeg) :: rest))) : W p l e R s m args below meth c H locs cells slots Q (F0 m pc ls (.int i :: va_rf r :: rest)) := by
  subst hr
  exact va_sld (A := fun q => b ≤ q) hexec hb hX hbl hbA hst.2.1 hin hdg kk
theorem jw_slen (hexec : p.tables.exec = Jvm.exec) (hb : c.code = cc) {sc L : Nat} {xs : Nat → Int32} {r : Option Nat} (hr : r = some sc) (hX : va_X sc L xs s s.heap) (hbl : sc < s.heap.size) (hbA : ¬ b ≤ sc) (hst : jm_St g b M0 Mf M s R H locs cells slots) (hdg : decode cc pc = .ok (.arraylength, 1))
    (kk : W p l e R s m args below meth c H locs cells slots Q (F0 m (pc + 1) ls (.int (Int32.ofNat L) :: rest))) : W p l e R s m args below meth c H locs cells slots Q (F0 m pc ls (va_rf r :: rest)) := by
  subst hr
  exact va_slen (A := fun q => b ≤ q) hexec hb hX hbl hbA hst.2.1 hdg kk
end JSCR
abbrev RL : String := "ChainPartsLaw"
