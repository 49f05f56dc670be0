/-! BASE LAYER: a method as a pure function over an abstract heap (jm_P), and the rows that tie each of its steps to the machine -/
abbrev CE : Type := (Nat × vp_A) ⊕ (Nat × List Value)
/-- the abstract heap: the next address, the slots in use, what each address holds -/
abbrev Mem : Type := Nat × Nat × (Nat → Option CE)
def jm_le (M M' : Mem) : Prop := M.1 ≤ M'.1 ∧ M.2.1 ≤ M'.2.1
theorem jm_le_rf {M : Mem} : jm_le M M := ⟨Nat.le_refl _, Nat.le_refl _⟩
theorem jm_le_tr {A B C : Mem} (h : jm_le A B) (k : jm_le B C) : jm_le A C := ⟨Nat.le_trans h.1 k.1, Nat.le_trans h.2 k.2⟩
def jm_P (α : Type) : Type := { f : Mem → Option (α × Mem) // ∀ (M : Mem) (r : α) (M' : Mem), f M = some (r, M') → jm_le M M' }
theorem jm_mono {α : Type} {p : jm_P α} {M M' : Mem} {r : α} (h : p.1 M = some (r, M')) : jm_le M M' := p.2 M r M' h
def jm_ret {α : Type} (a : α) : jm_P α := ⟨fun M => some (a, M), fun M r M' h => by cases h; exact jm_le_rf⟩
def jm_no {α : Type} : jm_P α := ⟨fun _ => none, fun M r M' h => by cases h⟩
def jm_bd {α β : Type} (p : jm_P α) (k : α → jm_P β) : jm_P β := ⟨fun M => match p.1 M with
  | none => none
  | some x => (k x.1).1 x.2, fun M r M' h => by
    cases hp : p.1 M with
    | none => simp only [hp] at h; cases h
    | some x =>
      simp only [hp] at h
      exact jm_le_tr (p.2 M x.1 x.2 (by rw [hp])) ((k x.1).2 _ _ _ h)⟩
def jm_rd {α β : Type} (q : Mem → Option α) (k : α → jm_P β) : jm_P β := ⟨fun M => match q M with
  | none => none
  | some x => (k x).1 M, fun M r M' h => by
    cases hp : q M with
    | none => simp only [hp] at h; cases h
    | some x =>
      simp only [hp] at h
      exact (k x).2 _ _ _ h⟩
def jm_wr {β : Type} (q : Mem → Option (Nat → Option CE)) (k : jm_P β) : jm_P β := ⟨fun M => match q M with
  | none => none
  | some f => k.1 (M.1, M.2.1, f), fun M r M' h => by
    cases hp : q M with
    | none => simp only [hp] at h; cases h
    | some x =>
      simp only [hp] at h
      exact k.2 (M.1, M.2.1, x) _ _ h⟩
def jm_sz : CE → Nat
  | .inl x => x.2.1
  | .inr x => x.2.length
def jm_new (e : CE) (M : Mem) : Mem := (M.1 + 1, M.2.1 + jm_sz e, va_up M.2.2 M.1 (some e))
def jm_al {β : Type} (e : CE) (k : Nat → jm_P β) : jm_P β := ⟨fun M => (k M.1).1 (jm_new e M), fun M r M' h => by
  have h1 := (k M.1).2 _ _ _ h
  exact ⟨Nat.le_trans (Nat.le_succ _) h1.1, Nat.le_trans (Nat.le_add_right _ _) h1.2⟩⟩
/-- steps on while the body says .inl -/
def jm_it {σ ρ : Type} (body : σ → jm_P (σ ⊕ ρ)) : Nat → σ → jm_P ρ
  | 0, _ => jm_no
  | n + 1, s => jm_bd (body s) (fun x => match x with
    | .inl s' => jm_it body n s'
    | .inr r => jm_ret r)
theorem jm_ret_some {α : Type} {a r : α} {M M' : Mem} (h : (jm_ret a).1 M = some (r, M')) : a = r ∧ M = M' := by cases h; exact ⟨rfl, rfl⟩
theorem jm_no_some {α : Type} {r : α} {M M' : Mem} (h : (jm_no : jm_P α).1 M = some (r, M')) : False := by cases h
theorem jm_bd_some {α β : Type} {p : jm_P α} {k : α → jm_P β} {M M' : Mem} {r : β} (h : (jm_bd p k).1 M = some (r, M')) : ∃ (x : α) (M1 : Mem), p.1 M = some (x, M1) ∧ (k x).1 M1 = some (r, M') := by
  unfold jm_bd at h
  dsimp only at h
  cases hp : p.1 M with
  | none => simp only [hp] at h; cases h
  | some x =>
    simp only [hp] at h
    exact ⟨x.1, x.2, rfl, h⟩
theorem jm_rd_some {α β : Type} {q : Mem → Option α} {k : α → jm_P β} {M M' : Mem} {r : β} (h : (jm_rd q k).1 M = some (r, M')) : ∃ x : α, q M = some x ∧ (k x).1 M = some (r, M') := by
  unfold jm_rd at h
  dsimp only at h
  cases hp : q M with
  | none => simp only [hp] at h; cases h
  | some x =>
    simp only [hp] at h
    exact ⟨x, rfl, h⟩
theorem jm_wr_some {β : Type} {q : Mem → Option (Nat → Option CE)} {k : jm_P β} {M M' : Mem} {r : β} (h : (jm_wr q k).1 M = some (r, M')) : ∃ f, q M = some f ∧ k.1 (M.1, M.2.1, f) = some (r, M') := by
  unfold jm_wr at h
  dsimp only at h
  cases hp : q M with
  | none => simp only [hp] at h; cases h
  | some x =>
    simp only [hp] at h
    exact ⟨x, rfl, h⟩
theorem jm_al_some {β : Type} {e : CE} {k : Nat → jm_P β} {M M' : Mem} {r : β} (h : (jm_al e k).1 M = some (r, M')) : ∃ q : Nat, q = M.1 ∧ (k q).1 (jm_new e M) = some (r, M') := ⟨M.1, rfl, h⟩
theorem jm_bd_eq {α β : Type} {p : jm_P α} {k : α → jm_P β} {M M1 : Mem} {x : α} (h : p.1 M = some (x, M1)) : (jm_bd p k).1 M = (k x).1 M1 := by
  unfold jm_bd
  simp only [h]
theorem jm_rd_eq {α β : Type} {q : Mem → Option α} {k : α → jm_P β} {M : Mem} {x : α} (h : q M = some x) : (jm_rd q k).1 M = (k x).1 M := by
  unfold jm_rd
  simp only [h]
theorem jm_wr_eq {β : Type} {q : Mem → Option (Nat → Option CE)} {k : jm_P β} {M : Mem} {f : Nat → Option CE} (h : q M = some f) : (jm_wr q k).1 M = k.1 (M.1, M.2.1, f) := by
  unfold jm_wr
  simp only [h]
theorem jm_al_eq {β : Type} {e : CE} {k : Nat → jm_P β} {M : Mem} : (jm_al e k).1 M = (k M.1).1 (jm_new e M) := rfl
theorem jm_ret_eq {α : Type} {a : α} {M : Mem} : (jm_ret a).1 M = some (a, M) := rfl
def jm_or {σ ρ : Type} (A : σ → Prop) (B : ρ → Prop) : σ ⊕ ρ → Prop
  | .inl s => A s
  | .inr r => B r
theorem jm_or_l {σ ρ : Type} {A : σ → Prop} {B : ρ → Prop} {s : σ} (h : jm_or A B (.inl s)) : A s := h
theorem jm_or_r {σ ρ : Type} {A : σ → Prop} {B : ρ → Prop} {r : ρ} (h : jm_or A B (.inr r)) : B r := h
/-- a loop, walked: what holds at the head by the body's own end -/
theorem jm_it_walk {σ ρ : Type} {body : σ → jm_P (σ ⊕ ρ)} {Wh : σ → Mem → Prop} {We : ρ → Mem → Prop} {Mf : Mem}
    (h : ∀ (s : σ) (M : Mem) (x : σ ⊕ ρ) (M1 : Mem), (body s).1 M = some (x, M1) → jm_le M1 Mf → jm_or (fun s' => Wh s' M1) (fun r => We r M1) x → Wh s M) : ∀ (n : Nat) (s : σ) (M : Mem) (r : ρ) (M' : Mem), (jm_it body n s).1 M = some (r, M') → jm_le M' Mf → We r M' → Wh s M := by
  intro n
  induction n with
  | zero => intro s M r M' e; exact absurd e (fun q => by cases q)
  | succ n ih =>
    intro s M r M' e hM hr
    obtain ⟨x, M1, h1, h2⟩ := jm_bd_some (show (jm_bd (body s) (fun x => match x with
      | .inl s' => jm_it body n s'
      | .inr r => jm_ret r)).1 M = some (r, M') from e)
    cases x with
    | inl s' => exact h s M (.inl s') M1 h1 (jm_le_tr (jm_mono h2) hM) (ih s' M1 r M' h2 hM hr)
    | inr r1 =>
      obtain ⟨rfl, rfl⟩ := jm_ret_some h2
      exact h s M (.inr r1) M1 h1 hM hr
/-- a loop in plain Lean: an invariant and a measure -/
theorem jm_it_ok {σ ρ : Type} {body : σ → jm_P (σ ⊕ ρ)} (I : σ → Mem → Prop) (Q : ρ → Mem → Prop) (μ : σ → Mem → Nat)
    (h : ∀ (s : σ) (M : Mem), I s M → ∃ (x : σ ⊕ ρ) (M1 : Mem), (body s).1 M = some (x, M1) ∧ (match x with
      | .inl s' => I s' M1 ∧ μ s' M1 < μ s M
      | .inr r => Q r M1)) : ∀ (n : Nat) (s : σ) (M : Mem), I s M → μ s M < n → ∃ (r : ρ) (M1 : Mem), (jm_it body n s).1 M = some (r, M1) ∧ Q r M1 := by
  intro n
  induction n with
  | zero => intro s M _ hn; exact absurd hn (Nat.not_lt_zero _)
  | succ n ih =>
    intro s M hI hn
    obtain ⟨x, M1, h1, h2⟩ := h s M hI
    have e : (jm_it body (n + 1) s).1 M = (jm_bd (body s) (fun x => match x with
      | .inl s' => jm_it body n s'
      | .inr r => jm_ret r)).1 M := rfl
    rw [jm_bd_eq h1] at e
    cases x with
    | inl s' =>
      obtain ⟨r, M2, h3, h4⟩ := ih s' M1 h2.1 (by have := h2.2; omega)
      exact ⟨r, M2, e.trans h3, h4⟩
    | inr r => exact ⟨r, M1, e, h2⟩
/-! what a step reads -/
def jm_ix (i : Int32) (n : Nat) : Option Nat := if 0 ≤ i.toInt ∧ i.toInt < (n : Int) then some i.toNatClampNeg else none
def jm_fld (cs : List Nat) (k : Nat) (r : Option Nat) (M : Mem) : Option Value := match r with
  | none => none
  | some a => match M.2.2 a with
    | some (.inr o) => if o.1 ∈ cs then o.2[k]? else none
    | _ => none
def jm_fI (cs : List Nat) (k : Nat) (r : Option Nat) (M : Mem) : Option Int32 := match jm_fld cs k r M with
  | some (.int x) => some x
  | _ => none
def jm_fJ (cs : List Nat) (k : Nat) (r : Option Nat) (M : Mem) : Option Int64 := match jm_fld cs k r M with
  | some (.long x) => some x
  | _ => none
def jm_fR (cs : List Nat) (k : Nat) (r : Option Nat) (M : Mem) : Option (Option Nat) := match jm_fld cs k r M with
  | some (.ref x) => some (some x)
  | some .null => some none
  | _ => none
def jm_put (cs : List Nat) (k : Nat) (v : Value) (r : Option Nat) (M : Mem) : Option (Nat → Option CE) := match r with
  | none => none
  | some a => match M.2.2 a with
    | some (.inr o) => if o.1 ∈ cs ∧ k < o.2.length then some (va_up M.2.2 a (some (.inr (o.1, o.2.set k v)))) else none
    | _ => none
/-- the class of an object -/
def jm_kl (r : Option Nat) (M : Mem) : Option (Nat × Nat) := match r with
  | none => none
  | some a => match M.2.2 a with
    | some (.inr o) => some (a, o.1)
    | _ => none
def jm_ar (kd : Nat) (r : Option Nat) (M : Mem) : Option vp_A := match r with
  | none => none
  | some a => match M.2.2 a with
    | some (.inl x) => if x.1 = kd then some x.2 else none
    | _ => none
def jm_len (kd : Nat) (r : Option Nat) (M : Mem) : Option Int32 := match jm_ar kd r M with
  | some x => some (Int32.ofNat x.1)
  | none => none
def jm_ldI (kd : Nat) (r : Option Nat) (i : Int32) (M : Mem) : Option Int32 := match jm_ar kd r M with
  | some (n, .inl f) => match jm_ix i n with
    | some j => some (f j)
    | none => none
  | _ => none
def jm_ldJ (kd : Nat) (r : Option Nat) (i : Int32) (M : Mem) : Option Int64 := match jm_ar kd r M with
  | some (n, .inr (.inl f)) => match jm_ix i n with
    | some j => some (f j)
    | none => none
  | _ => none
def jm_ldR (kd : Nat) (r : Option Nat) (i : Int32) (M : Mem) : Option (Option Nat) := match jm_ar kd r M with
  | some (n, .inr (.inr (.inr (.inr f)))) => match jm_ix i n with
    | some j => some (f j)
    | none => none
  | _ => none
def jm_sto (r : Option Nat) (M : Mem) (e : CE) : Option (Nat → Option CE) := match r with
  | none => none
  | some a => some (va_up M.2.2 a (some e))
def jm_stI (kd : Nat) (r : Option Nat) (i x : Int32) (M : Mem) : Option (Nat → Option CE) := match jm_ar kd r M with
  | some (n, .inl f) => match jm_ix i n with
    | some j => jm_sto r M (.inl (kd, n, .inl (upd f j x)))
    | none => none
  | _ => none
def jm_stJ (kd : Nat) (r : Option Nat) (i : Int32) (x : Int64) (M : Mem) : Option (Nat → Option CE) := match jm_ar kd r M with
  | some (n, .inr (.inl f)) => match jm_ix i n with
    | some j => jm_sto r M (.inl (kd, n, .inr (.inl (vp_updL f j x))))
    | none => none
  | _ => none
/-- what may stand in an array of references: null, or an object of one of the classes, or an array of the kind -/
def jm_fit (cs : List Nat) (ka : Option Nat) (v : Option Nat) (M : Mem) : Bool := match v with
  | none => true
  | some q => match M.2.2 q with
    | some (.inr o) => decide (o.1 ∈ cs)
    | some (.inl x) => decide (some x.1 = ka)
    | none => false
def jm_stR (kd : Nat) (cs : List Nat) (ka : Option Nat) (r : Option Nat) (i : Int32) (v : Option Nat) (M : Mem) : Option (Nat → Option CE) := match jm_ar kd r M with
  | some (n, .inr (.inr (.inr (.inr f)))) => match jm_ix i n with
    | some j => if jm_fit cs ka v M = true then jm_sto r M (.inl (kd, n, .inr (.inr (.inr (.inr (va_up f j v)))))) else none
    | none => none
  | _ => none
theorem jm_ix_some {i : Int32} {n j : Nat} (h : jm_ix i n = some j) : vp_in i n ∧ i.toNatClampNeg = j ∧ j < n := by
  unfold jm_ix at h
  by_cases c : 0 ≤ i.toInt ∧ i.toInt < (n : Int)
  · rw [if_pos c] at h
    cases h
    refine ⟨vp_in_iff.mpr c, rfl, ?_⟩
    have := vp_in_iff.mpr c
    exact Nat.not_le.mp fun q => this (Or.inr q)
  · rw [if_neg c] at h; cases h
theorem jm_ix_nI {j n : Nat} (h : j < n) (hn : n < 2 ^ 31) : jm_ix (nI j) n = some j := by
  unfold jm_ix
  have h1 := nI_toInt (n := j) (by omega)
  rw [if_pos (by rw [h1]; omega), nI_clamp (by omega)]
