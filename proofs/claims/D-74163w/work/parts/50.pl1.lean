/-! plain: tj wa sv -/
set_option maxRecDepth 100000
section
def RchN (E : Nat → Nat → Prop) : Nat → Nat → Nat → Prop
  | 0, a, b => a = b
  | n + 1, a, b => ∃ c, E a c ∧ RchN E n c b

def Rch (E : Nat → Nat → Prop) (a b : Nat) : Prop := ∃ n, RchN E n a b

theorem Rch.refl {E : Nat → Nat → Prop} (a : Nat) : Rch E a a := ⟨0, rfl⟩
theorem Rch.head {E : Nat → Nat → Prop} {a b c : Nat} (e : E a b) (h : Rch E b c) : Rch E a c := by
  obtain ⟨n, h⟩ := h
  exact ⟨n + 1, b, e, h⟩
theorem Rch.ind {E : Nat → Nat → Prop} {b : Nat} {P : Nat → Prop} (h0 : P b) (hs : ∀ a c, E a c → Rch E c b → P c → P a) {a : Nat} (h : Rch E a b) : P a := by
  obtain ⟨n, h⟩ := h
  induction n generalizing a with
  | zero => have e : a = b := h
            rw [e]; exact h0
  | succ n ih =>
    obtain ⟨c, e, h⟩ := h
    exact hs a c e ⟨n, h⟩ (ih h)
theorem Rch.cas {E : Nat → Nat → Prop} {a b : Nat} (h : Rch E a b) : a = b ∨ ∃ c, E a c ∧ Rch E c b := by
  obtain ⟨n, h⟩ := h
  cases n with
  | zero => exact .inl h
  | succ n =>
    obtain ⟨c, e, h⟩ := h
    exact .inr ⟨c, e, n, h⟩

theorem Rch.trans {E : Nat → Nat → Prop} {a b c : Nat} (h : Rch E a b) (g : Rch E b c) : Rch E a c :=
  Rch.ind (P := fun x => Rch E x c) g (fun _ _ e _ ih => Rch.head e ih) h

theorem Rch.one {E : Nat → Nat → Prop} {a b : Nat} (h : E a b) : Rch E a b := Rch.head h (Rch.refl _)

/-- a path that leaves a set has an edge out of it. -/
theorem Rch.leaves {E : Nat → Nat → Prop} {S : Nat → Prop} {a b : Nat} (h : Rch E a b) : S a → ¬ S b → ∃ x y, S x ∧ ¬ S y ∧ E x y ∧ Rch E y b := by
  refine Rch.ind (P := fun z => S z → ¬ S b → ∃ x y, S x ∧ ¬ S y ∧ E x y ∧ Rch E y b) (fun p q => absurd p q) ?_ h
  intro x y e r ih p q
  by_cases hb : S y
  · exact ih hb q
  · exact ⟨x, y, p, hb, e, r⟩

abbrev TjS : Type := (Nat → Nat) × (Nat → Nat) × (Nat → Nat) × Nat × (Nat → Option Nat) × (Nat → Bool) × Nat × Nat
abbrev TjS.ord (s : TjS) : Nat → Nat := s.1
abbrev TjS.low (s : TjS) : Nat → Nat := s.2.1
abbrev TjS.pile (s : TjS) : Nat → Nat := s.2.2.1
abbrev TjS.pd (s : TjS) : Nat := s.2.2.2.1
abbrev TjS.kn (s : TjS) : Nat → Option Nat := s.2.2.2.2.1
abbrev TjS.kt (s : TjS) : Nat → Bool := s.2.2.2.2.2.1
abbrev TjS.kts (s : TjS) : Nat := s.2.2.2.2.2.2.1
abbrev TjS.met (s : TjS) : Nat := s.2.2.2.2.2.2.2

def TjS.inp (s : TjS) (v : Nat) : Prop := s.ord v ≠ 0 ∧ s.kn v = none

def TjI (V : Nat → Prop) (E : Nat → Nat → Prop) (gr : Nat → Prop) (s : TjS) : Prop :=
  (∀ v, s.ord v ≤ s.met) ∧
  (∀ v w, s.ord v = s.ord w → s.ord v ≠ 0 → v = w) ∧
  (∀ v, s.ord v ≠ 0 → V v) ∧
  (∀ k, k < s.pd → s.inp (s.pile k)) ∧
  (∀ v, s.inp v → ∃ k, k < s.pd ∧ s.pile k = v) ∧
  (∀ j k, j < k → k < s.pd → s.ord (s.pile j) < s.ord (s.pile k)) ∧
  (∀ v, s.ord v = 0 → s.kn v = none) ∧
  (∀ v, gr v → s.inp v) ∧
  (∀ v w, s.inp v → s.inp w → s.ord v ≤ s.ord w → Rch E v w) ∧
  (∀ v, s.inp v → ∃ g, gr g ∧ s.ord g ≤ s.ord v ∧ Rch E v g) ∧
  (∀ v w, s.ord v ≠ 0 → ¬ gr v → E v w → s.ord w ≠ 0) ∧
  (∀ v k, s.kn v = some k → k < s.kts) ∧
  (∀ v k w, s.kn v = some k → E v w → ∃ k', k' ≤ k ∧ s.kn w = some k') ∧
  (∀ v w k, s.kn v = some k → s.kn w = some k → Rch E v w) ∧
  (∀ k, k < s.kts → ∃ v, s.kn v = some k) ∧
  (∀ k, k < s.kts → (s.kt k = true ↔ (∃ v w, v ≠ w ∧ s.kn v = some k ∧ s.kn w = some k) ∨ ∃ v, s.kn v = some k ∧ E v v))
theorem TjI.a1 {V : Nat → Prop} {E : Nat → Nat → Prop} {gr : Nat → Prop} {s : TjS} (h9 : TjI V E gr s) : ∀ v, s.ord v ≤ s.met := h9.1
theorem TjI.a2 {V : Nat → Prop} {E : Nat → Nat → Prop} {gr : Nat → Prop} {s : TjS} (h9 : TjI V E gr s) : ∀ v w, s.ord v = s.ord w → s.ord v ≠ 0 → v = w := h9.2.1
theorem TjI.a3 {V : Nat → Prop} {E : Nat → Nat → Prop} {gr : Nat → Prop} {s : TjS} (h9 : TjI V E gr s) : ∀ v, s.ord v ≠ 0 → V v := h9.2.2.1
theorem TjI.p1 {V : Nat → Prop} {E : Nat → Nat → Prop} {gr : Nat → Prop} {s : TjS} (h9 : TjI V E gr s) : ∀ k, k < s.pd → s.inp (s.pile k) := h9.2.2.2.1
theorem TjI.p2 {V : Nat → Prop} {E : Nat → Nat → Prop} {gr : Nat → Prop} {s : TjS} (h9 : TjI V E gr s) : ∀ v, s.inp v → ∃ k, k < s.pd ∧ s.pile k = v := h9.2.2.2.2.1
theorem TjI.p3 {V : Nat → Prop} {E : Nat → Nat → Prop} {gr : Nat → Prop} {s : TjS} (h9 : TjI V E gr s) : ∀ j k, j < k → k < s.pd → s.ord (s.pile j) < s.ord (s.pile k) := h9.2.2.2.2.2.1
theorem TjI.p4 {V : Nat → Prop} {E : Nat → Nat → Prop} {gr : Nat → Prop} {s : TjS} (h9 : TjI V E gr s) : ∀ v, s.ord v = 0 → s.kn v = none := h9.2.2.2.2.2.2.1
theorem TjI.g1 {V : Nat → Prop} {E : Nat → Nat → Prop} {gr : Nat → Prop} {s : TjS} (h9 : TjI V E gr s) : ∀ v, gr v → s.inp v := h9.2.2.2.2.2.2.2.1
theorem TjI.i5 {V : Nat → Prop} {E : Nat → Nat → Prop} {gr : Nat → Prop} {s : TjS} (h9 : TjI V E gr s) : ∀ v w, s.inp v → s.inp w → s.ord v ≤ s.ord w → Rch E v w := h9.2.2.2.2.2.2.2.2.1
theorem TjI.i6 {V : Nat → Prop} {E : Nat → Nat → Prop} {gr : Nat → Prop} {s : TjS} (h9 : TjI V E gr s) : ∀ v, s.inp v → ∃ g, gr g ∧ s.ord g ≤ s.ord v ∧ Rch E v g := h9.2.2.2.2.2.2.2.2.2.1
theorem TjI.i7 {V : Nat → Prop} {E : Nat → Nat → Prop} {gr : Nat → Prop} {s : TjS} (h9 : TjI V E gr s) : ∀ v w, s.ord v ≠ 0 → ¬ gr v → E v w → s.ord w ≠ 0 := h9.2.2.2.2.2.2.2.2.2.2.1
theorem TjI.i8 {V : Nat → Prop} {E : Nat → Nat → Prop} {gr : Nat → Prop} {s : TjS} (h9 : TjI V E gr s) : ∀ v k, s.kn v = some k → k < s.kts := h9.2.2.2.2.2.2.2.2.2.2.2.1
theorem TjI.i8b {V : Nat → Prop} {E : Nat → Nat → Prop} {gr : Nat → Prop} {s : TjS} (h9 : TjI V E gr s) : ∀ v k w, s.kn v = some k → E v w → ∃ k', k' ≤ k ∧ s.kn w = some k' := h9.2.2.2.2.2.2.2.2.2.2.2.2.1
theorem TjI.i9 {V : Nat → Prop} {E : Nat → Nat → Prop} {gr : Nat → Prop} {s : TjS} (h9 : TjI V E gr s) : ∀ v w k, s.kn v = some k → s.kn w = some k → Rch E v w := h9.2.2.2.2.2.2.2.2.2.2.2.2.2.1
theorem TjI.i10 {V : Nat → Prop} {E : Nat → Nat → Prop} {gr : Nat → Prop} {s : TjS} (h9 : TjI V E gr s) : ∀ k, k < s.kts → ∃ v, s.kn v = some k := h9.2.2.2.2.2.2.2.2.2.2.2.2.2.2.1
theorem TjI.i11 {V : Nat → Prop} {E : Nat → Nat → Prop} {gr : Nat → Prop} {s : TjS} (h9 : TjI V E gr s) : ∀ k, k < s.kts → (s.kt k = true ↔ (∃ v w, v ≠ w ∧ s.kn v = some k ∧ s.kn w = some k) ∨ ∃ v, s.kn v = some k ∧ E v v) := h9.2.2.2.2.2.2.2.2.2.2.2.2.2.2.2

def TjE (s0 s : TjS) : Prop :=
  (∀ v, s0.ord v ≠ 0 → s.ord v = s0.ord v) ∧
  (∀ v, s0.ord v ≠ 0 → s.low v = s0.low v) ∧
  (∀ v k, s0.kn v = some k → s.kn v = some k) ∧
  (∀ v, s0.inp v → s.inp v) ∧
  (∀ v, s0.ord v = 0 → s.ord v ≠ 0 → s0.met < s.ord v) ∧
  (s0.met ≤ s.met) ∧
  (s0.pd ≤ s.pd) ∧
  (∀ k, k < s0.pd → s.pile k = s0.pile k) ∧
  (s0.kts ≤ s.kts)
theorem TjE.o {s0 s : TjS} (h9 : TjE s0 s) : ∀ v, s0.ord v ≠ 0 → s.ord v = s0.ord v := h9.1
theorem TjE.lw {s0 s : TjS} (h9 : TjE s0 s) : ∀ v, s0.ord v ≠ 0 → s.low v = s0.low v := h9.2.1
theorem TjE.k {s0 s : TjS} (h9 : TjE s0 s) : ∀ v k, s0.kn v = some k → s.kn v = some k := h9.2.2.1
theorem TjE.ip {s0 s : TjS} (h9 : TjE s0 s) : ∀ v, s0.inp v → s.inp v := h9.2.2.2.1
theorem TjE.n {s0 s : TjS} (h9 : TjE s0 s) : ∀ v, s0.ord v = 0 → s.ord v ≠ 0 → s0.met < s.ord v := h9.2.2.2.2.1
theorem TjE.m {s0 s : TjS} (h9 : TjE s0 s) : s0.met ≤ s.met := h9.2.2.2.2.2.1
theorem TjE.pd {s0 s : TjS} (h9 : TjE s0 s) : s0.pd ≤ s.pd := h9.2.2.2.2.2.2.1
theorem TjE.pl {s0 s : TjS} (h9 : TjE s0 s) : ∀ k, k < s0.pd → s.pile k = s0.pile k := h9.2.2.2.2.2.2.2.1
theorem TjE.kts {s0 s : TjS} (h9 : TjE s0 s) : s0.kts ≤ s.kts := h9.2.2.2.2.2.2.2.2

theorem TjE.refl (s : TjS) : TjE s s :=
  ⟨fun _ _ => rfl, fun _ _ => rfl, fun _ _ h => h, fun _ h => h, fun _ a b => absurd a b, Nat.le_refl _, Nat.le_refl _, fun _ _ => rfl, Nat.le_refl _⟩

/-- what holds while the successors of i are gone through; D: which were. -/
def TjL (V : Nat → Prop) (E : Nat → Nat → Prop) (gr : Nat → Prop) (i : Nat) (D : Nat → Prop) (s0 s : TjS) : Prop :=
  (TjI V E (fun v => gr v ∨ v = i) s) ∧
  (∀ v, s0.ord v ≠ 0 → s.ord v = s0.ord v) ∧
  (∀ v, s0.ord v ≠ 0 → s.low v = s0.low v) ∧
  (∀ v k, s0.kn v = some k → s.kn v = some k) ∧
  (∀ v, s0.inp v → s.inp v) ∧
  (∀ v, s0.ord v = 0 → s.ord v ≠ 0 → s0.met < s.ord v) ∧
  (s0.pd < s.pd) ∧
  (∀ k, k < s0.pd → s.pile k = s0.pile k) ∧
  (s.pile s0.pd = i) ∧
  (s0.kts ≤ s.kts) ∧
  (s0.ord i = 0) ∧
  (∀ g, gr g → s.ord g < s.ord i) ∧
  (∀ v, s0.ord v ≤ s0.met) ∧
  (s.ord i = s0.met + 1) ∧
  (s.inp i) ∧
  (∀ w, E i w → D w → s.ord w ≠ 0) ∧
  (∃ y, s.inp y ∧ s.ord y = s.low i ∧ Rch E i y) ∧
  (s.low i ≤ s.ord i) ∧
  (∀ v w, s.inp v → s.ord i ≤ s.ord v → s.inp w → E v w → (v = i → D w) → s.low i ≤ s.ord w)
theorem TjL.I {V : Nat → Prop} {E : Nat → Nat → Prop} {gr : Nat → Prop} {i : Nat} {D : Nat → Prop} {s0 s : TjS} (h9 : TjL V E gr i D s0 s) : TjI V E (fun v => gr v ∨ v = i) s := h9.1
theorem TjL.o {V : Nat → Prop} {E : Nat → Nat → Prop} {gr : Nat → Prop} {i : Nat} {D : Nat → Prop} {s0 s : TjS} (h9 : TjL V E gr i D s0 s) : ∀ v, s0.ord v ≠ 0 → s.ord v = s0.ord v := h9.2.1
theorem TjL.lw {V : Nat → Prop} {E : Nat → Nat → Prop} {gr : Nat → Prop} {i : Nat} {D : Nat → Prop} {s0 s : TjS} (h9 : TjL V E gr i D s0 s) : ∀ v, s0.ord v ≠ 0 → s.low v = s0.low v := h9.2.2.1
theorem TjL.k {V : Nat → Prop} {E : Nat → Nat → Prop} {gr : Nat → Prop} {i : Nat} {D : Nat → Prop} {s0 s : TjS} (h9 : TjL V E gr i D s0 s) : ∀ v k, s0.kn v = some k → s.kn v = some k := h9.2.2.2.1
theorem TjL.ip {V : Nat → Prop} {E : Nat → Nat → Prop} {gr : Nat → Prop} {i : Nat} {D : Nat → Prop} {s0 s : TjS} (h9 : TjL V E gr i D s0 s) : ∀ v, s0.inp v → s.inp v := h9.2.2.2.2.1
theorem TjL.n {V : Nat → Prop} {E : Nat → Nat → Prop} {gr : Nat → Prop} {i : Nat} {D : Nat → Prop} {s0 s : TjS} (h9 : TjL V E gr i D s0 s) : ∀ v, s0.ord v = 0 → s.ord v ≠ 0 → s0.met < s.ord v := h9.2.2.2.2.2.1
theorem TjL.pd {V : Nat → Prop} {E : Nat → Nat → Prop} {gr : Nat → Prop} {i : Nat} {D : Nat → Prop} {s0 s : TjS} (h9 : TjL V E gr i D s0 s) : s0.pd < s.pd := h9.2.2.2.2.2.2.1
theorem TjL.pl {V : Nat → Prop} {E : Nat → Nat → Prop} {gr : Nat → Prop} {i : Nat} {D : Nat → Prop} {s0 s : TjS} (h9 : TjL V E gr i D s0 s) : ∀ k, k < s0.pd → s.pile k = s0.pile k := h9.2.2.2.2.2.2.2.1
theorem TjL.pi {V : Nat → Prop} {E : Nat → Nat → Prop} {gr : Nat → Prop} {i : Nat} {D : Nat → Prop} {s0 s : TjS} (h9 : TjL V E gr i D s0 s) : s.pile s0.pd = i := h9.2.2.2.2.2.2.2.2.1
theorem TjL.kts {V : Nat → Prop} {E : Nat → Nat → Prop} {gr : Nat → Prop} {i : Nat} {D : Nat → Prop} {s0 s : TjS} (h9 : TjL V E gr i D s0 s) : s0.kts ≤ s.kts := h9.2.2.2.2.2.2.2.2.2.1
theorem TjL.w0 {V : Nat → Prop} {E : Nat → Nat → Prop} {gr : Nat → Prop} {i : Nat} {D : Nat → Prop} {s0 s : TjS} (h9 : TjL V E gr i D s0 s) : s0.ord i = 0 := h9.2.2.2.2.2.2.2.2.2.2.1
theorem TjL.gb {V : Nat → Prop} {E : Nat → Nat → Prop} {gr : Nat → Prop} {i : Nat} {D : Nat → Prop} {s0 s : TjS} (h9 : TjL V E gr i D s0 s) : ∀ g, gr g → s.ord g < s.ord i := h9.2.2.2.2.2.2.2.2.2.2.2.1
theorem TjL.b0 {V : Nat → Prop} {E : Nat → Nat → Prop} {gr : Nat → Prop} {i : Nat} {D : Nat → Prop} {s0 s : TjS} (h9 : TjL V E gr i D s0 s) : ∀ v, s0.ord v ≤ s0.met := h9.2.2.2.2.2.2.2.2.2.2.2.2.1
theorem TjL.oi {V : Nat → Prop} {E : Nat → Nat → Prop} {gr : Nat → Prop} {i : Nat} {D : Nat → Prop} {s0 s : TjS} (h9 : TjL V E gr i D s0 s) : s.ord i = s0.met + 1 := h9.2.2.2.2.2.2.2.2.2.2.2.2.2.1
theorem TjL.ii {V : Nat → Prop} {E : Nat → Nat → Prop} {gr : Nat → Prop} {i : Nat} {D : Nat → Prop} {s0 s : TjS} (h9 : TjL V E gr i D s0 s) : s.inp i := h9.2.2.2.2.2.2.2.2.2.2.2.2.2.2.1
theorem TjL.l1 {V : Nat → Prop} {E : Nat → Nat → Prop} {gr : Nat → Prop} {i : Nat} {D : Nat → Prop} {s0 s : TjS} (h9 : TjL V E gr i D s0 s) : ∀ w, E i w → D w → s.ord w ≠ 0 := h9.2.2.2.2.2.2.2.2.2.2.2.2.2.2.2.1
theorem TjL.l2 {V : Nat → Prop} {E : Nat → Nat → Prop} {gr : Nat → Prop} {i : Nat} {D : Nat → Prop} {s0 s : TjS} (h9 : TjL V E gr i D s0 s) : ∃ y, s.inp y ∧ s.ord y = s.low i ∧ Rch E i y := h9.2.2.2.2.2.2.2.2.2.2.2.2.2.2.2.2.1
theorem TjL.l2b {V : Nat → Prop} {E : Nat → Nat → Prop} {gr : Nat → Prop} {i : Nat} {D : Nat → Prop} {s0 s : TjS} (h9 : TjL V E gr i D s0 s) : s.low i ≤ s.ord i := h9.2.2.2.2.2.2.2.2.2.2.2.2.2.2.2.2.2.1
theorem TjL.l3 {V : Nat → Prop} {E : Nat → Nat → Prop} {gr : Nat → Prop} {i : Nat} {D : Nat → Prop} {s0 s : TjS} (h9 : TjL V E gr i D s0 s) : ∀ v w, s.inp v → s.ord i ≤ s.ord v → s.inp w → E v w → (v = i → D w) → s.low i ≤ s.ord w := h9.2.2.2.2.2.2.2.2.2.2.2.2.2.2.2.2.2.2

def TjP (V : Nat → Prop) (E : Nat → Nat → Prop) (gr : Nat → Prop) (i : Nat) (s0 s : TjS) : Prop :=
  (TjI V E gr s) ∧
  (TjE s0 s) ∧
  (s.ord i = s0.met + 1) ∧
  ((s.kn i ≠ none ∧ s.pd = s0.pd ∧ s.low i = s.ord i) ∨ (s.kn i = none ∧ (∃ y, s.inp y ∧ s.ord y = s.low i ∧ Rch E i y) ∧ s.low i < s.ord i ∧ ∀ v w, s.inp v → s.ord i ≤ s.ord v → s.inp w → E v w → s.low i ≤ s.ord w))
theorem TjP.I {V : Nat → Prop} {E : Nat → Nat → Prop} {gr : Nat → Prop} {i : Nat} {s0 s : TjS} (h9 : TjP V E gr i s0 s) : TjI V E gr s := h9.1
theorem TjP.X {V : Nat → Prop} {E : Nat → Nat → Prop} {gr : Nat → Prop} {i : Nat} {s0 s : TjS} (h9 : TjP V E gr i s0 s) : TjE s0 s := h9.2.1
theorem TjP.oi {V : Nat → Prop} {E : Nat → Nat → Prop} {gr : Nat → Prop} {i : Nat} {s0 s : TjS} (h9 : TjP V E gr i s0 s) : s.ord i = s0.met + 1 := h9.2.2.1
theorem TjP.r {V : Nat → Prop} {E : Nat → Nat → Prop} {gr : Nat → Prop} {i : Nat} {s0 s : TjS} (h9 : TjP V E gr i s0 s) : (s.kn i ≠ none ∧ s.pd = s0.pd ∧ s.low i = s.ord i) ∨ (s.kn i = none ∧ (∃ y, s.inp y ∧ s.ord y = s.low i ∧ Rch E i y) ∧ s.low i < s.ord i ∧ ∀ v w, s.inp v → s.ord i ≤ s.ord v → s.inp w → E v w → s.low i ≤ s.ord w) := h9.2.2.2

def tjpush (s : TjS) (i : Nat) : TjS := (fun v => if v = i then s.met + 1 else s.ord v, fun v => if v = i then s.met + 1 else s.low v, fun k => if k = s.pd then i else s.pile k, s.pd + 1, s.kn, s.kt, s.kts, s.met + 1)
theorem tjpush_ord (s : TjS) (i : Nat) : (tjpush s i).ord = fun v => if v = i then s.met + 1 else s.ord v := rfl
theorem tjpush_low (s : TjS) (i : Nat) : (tjpush s i).low = fun v => if v = i then s.met + 1 else s.low v := rfl
theorem tjpush_pile (s : TjS) (i : Nat) : (tjpush s i).pile = fun k => if k = s.pd then i else s.pile k := rfl
theorem tjpush_pd (s : TjS) (i : Nat) : (tjpush s i).pd = s.pd + 1 := rfl
theorem tjpush_kn (s : TjS) (i : Nat) : (tjpush s i).kn = s.kn := rfl
theorem tjpush_kt (s : TjS) (i : Nat) : (tjpush s i).kt = s.kt := rfl
theorem tjpush_kts (s : TjS) (i : Nat) : (tjpush s i).kts = s.kts := rfl
theorem tjpush_met (s : TjS) (i : Nat) : (tjpush s i).met = s.met + 1 := rfl

theorem tjpush_ok {V E gr i s} (I : TjI V E gr s) (hV : V i) (h0 : s.ord i = 0) (hr : ∀ g, gr g → Rch E g i) : TjL V E gr i (fun _ => False) s (tjpush s i) := by
  have hin : ∀ v, (tjpush s i).inp v ↔ (s.inp v ∨ v = i) := by
    intro v
    have := I.p4 i h0
    simp only [tjpush_ord, tjpush_low, tjpush_pile, tjpush_pd, tjpush_kn, tjpush_kt, tjpush_kts, tjpush_met, TjS.inp]
    by_cases hv : v = i <;> simp [hv, this]
  have ho : ∀ v, s.ord v ≠ 0 → (tjpush s i).ord v = s.ord v := by
    intro v hv
    have : v ≠ i := fun e => hv (e ▸ h0)
    simp [tjpush_ord, tjpush_low, tjpush_pile, tjpush_pd, tjpush_kn, tjpush_kt, tjpush_kts, tjpush_met, this]
  have hoi : (tjpush s i).ord i = s.met + 1 := by simp [tjpush_ord, tjpush_low, tjpush_pile, tjpush_pd, tjpush_kn, tjpush_kt, tjpush_kts, tjpush_met]
  have hni : ∀ v, s.inp v → v ≠ i := fun v hv e => hv.1 (e ▸ h0)
  have hni' : ∀ v, v ≠ i → (tjpush s i).ord v = s.ord v := fun v hv => by simp [tjpush_ord, tjpush_low, tjpush_pile, tjpush_pd, tjpush_kn, tjpush_kt, tjpush_kts, tjpush_met, hv]
  have hpile : ∀ v, s.inp v → Rch E v i := by
    intro v hv
    obtain ⟨g, hg, _, r⟩ := I.i6 v hv
    exact r.trans (hr g hg)
  refine ⟨⟨?_, ?_, ?_, ?_, ?_, ?_, ?_, ?_, ?_, ?_, ?_, ?_, ?_, ?_, ?_, ?_⟩, ho, ?_, fun v k h => h, fun v hv => (hin v).2 (.inl hv), ?_, ?_, ?_, ?_, Nat.le_refl _, h0, ?_, I.a1, hoi, (hin i).2 (.inr rfl), ?_, ?_, ?_, ?_⟩
  · intro v
    by_cases hv : v = i
    · simp [tjpush_ord, tjpush_low, tjpush_pile, tjpush_pd, tjpush_kn, tjpush_kt, tjpush_kts, tjpush_met, hv]
    · simp only [tjpush_ord, tjpush_low, tjpush_pile, tjpush_pd, tjpush_kn, tjpush_kt, tjpush_kts, tjpush_met, hv, if_false]; exact Nat.le_succ_of_le (I.a1 v)
  · intro v w e hne
    by_cases hv : v = i <;> by_cases hw : w = i
    · rw [hv, hw]
    · rw [hv, hoi, hni' w hw] at e; have := I.a1 w; omega
    · rw [hw, hoi, hni' v hv] at e; have := I.a1 v; omega
    · rw [hni' v hv, hni' w hw] at e; rw [hni' v hv] at hne; exact I.a2 v w e hne
  · intro v hv
    by_cases e : v = i
    · exact e ▸ hV
    · rw [hni' v e] at hv; exact I.a3 v hv
  · intro k hk
    rw [hin]
    by_cases e : k = s.pd
    · right; simp [tjpush_ord, tjpush_low, tjpush_pile, tjpush_pd, tjpush_kn, tjpush_kt, tjpush_kts, tjpush_met, e]
    · left
      have : k < s.pd := by simp [tjpush_ord, tjpush_low, tjpush_pile, tjpush_pd, tjpush_kn, tjpush_kt, tjpush_kts, tjpush_met] at hk; omega
      simp only [tjpush_ord, tjpush_low, tjpush_pile, tjpush_pd, tjpush_kn, tjpush_kt, tjpush_kts, tjpush_met, e, if_false]; exact I.p1 k this
  · intro v hv
    rcases (hin v).1 hv with hv | e
    · obtain ⟨k, hk, e⟩ := I.p2 v hv
      refine ⟨k, by simp [tjpush_ord, tjpush_low, tjpush_pile, tjpush_pd, tjpush_kn, tjpush_kt, tjpush_kts, tjpush_met]; omega, ?_⟩
      have : k ≠ s.pd := by omega
      simp [tjpush_ord, tjpush_low, tjpush_pile, tjpush_pd, tjpush_kn, tjpush_kt, tjpush_kts, tjpush_met, this, e]
    · exact ⟨s.pd, by simp [tjpush_ord, tjpush_low, tjpush_pile, tjpush_pd, tjpush_kn, tjpush_kt, tjpush_kts, tjpush_met], by simp [tjpush_ord, tjpush_low, tjpush_pile, tjpush_pd, tjpush_kn, tjpush_kt, tjpush_kts, tjpush_met, e]⟩
  · intro j k hjk hk
    have hk' : k < s.pd + 1 := by simpa [tjpush] using hk
    have hj : j ≠ s.pd := by omega
    have hjp := I.p1 j (by omega)
    have e1 : (tjpush s i).pile j = s.pile j := by simp [tjpush_ord, tjpush_low, tjpush_pile, tjpush_pd, tjpush_kn, tjpush_kt, tjpush_kts, tjpush_met, hj]
    rw [e1, ho _ hjp.1]
    by_cases e : k = s.pd
    · have e2 : (tjpush s i).pile k = i := by simp [tjpush_ord, tjpush_low, tjpush_pile, tjpush_pd, tjpush_kn, tjpush_kt, tjpush_kts, tjpush_met, e]
      rw [e2, hoi]; have := I.a1 (s.pile j); omega
    · have e2 : (tjpush s i).pile k = s.pile k := by simp [tjpush_ord, tjpush_low, tjpush_pile, tjpush_pd, tjpush_kn, tjpush_kt, tjpush_kts, tjpush_met, e]
      rw [e2, ho _ (I.p1 k (by omega)).1]
      exact I.p3 j k hjk (by omega)
  · intro v hv
    by_cases e : v = i
    · rw [e, hoi] at hv; omega
    · rw [hni' v e] at hv; exact I.p4 v hv
  · intro v hv
    rw [hin]
    rcases hv with hv | hv
    · exact .inl (I.g1 v hv)
    · exact .inr hv
  · intro v w hv hw hle
    rcases (hin v).1 hv with hv | ev <;> rcases (hin w).1 hw with hw | ew
    · rw [ho v hv.1, ho w hw.1] at hle; exact I.i5 v w hv hw hle
    · rw [ew]; exact hpile v hv
    · rw [ev, hoi, ho w hw.1] at hle; have := I.a1 w; omega
    · rw [ev, ew]; exact Rch.refl _
  · intro v hv
    rcases (hin v).1 hv with hv | ev
    · obtain ⟨g, hg, hle, r⟩ := I.i6 v hv
      exact ⟨g, .inl hg, by rw [ho g (I.g1 g hg).1, ho v hv.1]; exact hle, r⟩
    · exact ⟨i, .inr rfl, by rw [ev]; exact Nat.le_refl _, by rw [ev]; exact Rch.refl _⟩
  · intro v w hv hg e
    have hvi : v ≠ i := fun h => hg (.inr h)
    rw [hni' v hvi] at hv
    have hw := I.i7 v w hv (fun h => hg (.inl h)) e
    rw [ho w hw]; exact hw
  · exact I.i8
  · exact I.i8b
  · exact I.i9
  · exact I.i10
  · exact I.i11
  · intro v hv
    have : v ≠ i := fun e => hv (e ▸ h0)
    simp [tjpush_ord, tjpush_low, tjpush_pile, tjpush_pd, tjpush_kn, tjpush_kt, tjpush_kts, tjpush_met, this]
  · intro v hv hv'
    by_cases e : v = i
    · rw [e, hoi]; omega
    · rw [hni' v e] at hv'; exact absurd hv hv'
  · simp [tjpush_ord, tjpush_low, tjpush_pile, tjpush_pd, tjpush_kn, tjpush_kt, tjpush_kts, tjpush_met]
  · intro k hk
    have : k ≠ s.pd := by omega
    simp [tjpush_ord, tjpush_low, tjpush_pile, tjpush_pd, tjpush_kn, tjpush_kt, tjpush_kts, tjpush_met, this]
  · simp [tjpush_ord, tjpush_low, tjpush_pile, tjpush_pd, tjpush_kn, tjpush_kt, tjpush_kts, tjpush_met]
  · intro g hg
    rw [hoi, ho g (I.g1 g hg).1]; have := I.a1 g; omega
  · intro w _ h; exact h.elim
  · exact ⟨i, (hin i).2 (.inr rfl), by simp [tjpush_ord, tjpush_low, tjpush_pile, tjpush_pd, tjpush_kn, tjpush_kt, tjpush_kts, tjpush_met], Rch.refl _⟩
  · simp [tjpush_ord, tjpush_low, tjpush_pile, tjpush_pd, tjpush_kn, tjpush_kt, tjpush_kts, tjpush_met]
  · intro v w hv hle hw e hd
    rcases (hin v).1 hv with hv | ev
    · rw [hoi, ho v hv.1] at hle; have := I.a1 v; omega
    · exact (hd ev).elim

/-- a successor that is known and not piled (closed), or that is gone past. -/
theorem TjL.past {V E gr i D s0 s} (L : TjL V E gr i D s0 s) {on : Nat} (h : s.ord on ≠ 0) (hk : s.kn on ≠ none) : TjL V E gr i (fun w => D w ∨ w = on) s0 s := by
  refine ⟨L.I, L.o, L.lw, L.k, L.ip, L.n, L.pd, L.pl, L.pi, L.kts, L.w0, L.gb, L.b0, L.oi, L.ii, ?_, L.l2, L.l2b, ?_⟩
  · intro w e hd
    rcases hd with hd | rfl
    · exact L.l1 w e hd
    · exact h
  · intro v w hv hle hw e hd
    refine L.l3 v w hv hle hw e (fun ev => ?_)
    rcases hd ev with hd | rfl
    · exact hd
    · exact absurd hw.2 hk

def tjlow (s : TjS) (i x : Nat) : TjS := (s.ord, fun v => if v = i then x else s.low v, s.pile, s.pd, s.kn, s.kt, s.kts, s.met)
theorem tjlow_ord (s : TjS) (i x : Nat) : (tjlow s i x).ord = s.ord := rfl
theorem tjlow_low (s : TjS) (i x : Nat) : (tjlow s i x).low = fun v => if v = i then x else s.low v := rfl
theorem tjlow_pile (s : TjS) (i x : Nat) : (tjlow s i x).pile = s.pile := rfl
theorem tjlow_pd (s : TjS) (i x : Nat) : (tjlow s i x).pd = s.pd := rfl
theorem tjlow_kn (s : TjS) (i x : Nat) : (tjlow s i x).kn = s.kn := rfl
theorem tjlow_kt (s : TjS) (i x : Nat) : (tjlow s i x).kt = s.kt := rfl
theorem tjlow_kts (s : TjS) (i x : Nat) : (tjlow s i x).kts = s.kts := rfl
theorem tjlow_met (s : TjS) (i x : Nat) : (tjlow s i x).met = s.met := rfl

/-- a successor that is piled. -/
theorem TjL.piled {V E gr i D s0 s} (L : TjL V E gr i D s0 s) {on : Nat} (he : E i on) (h : s.inp on) : TjL V E gr i (fun w => D w ∨ w = on) s0 (tjlow s i (min (s.low i) (s.ord on))) := by
  refine ⟨?_, L.o, ?_, L.k, L.ip, L.n, L.pd, L.pl, L.pi, L.kts, L.w0, L.gb, L.b0, L.oi, L.ii, ?_, ?_, ?_, ?_⟩
  · exact ⟨L.I.a1, L.I.a2, L.I.a3, L.I.p1, L.I.p2, L.I.p3, L.I.p4, L.I.g1, L.I.i5, L.I.i6, L.I.i7, L.I.i8, L.I.i8b, L.I.i9, L.I.i10, L.I.i11⟩
  · intro v hv
    have : v ≠ i := fun e => hv (e ▸ L.w0)
    simp only [tjlow_ord, tjlow_low, tjlow_pile, tjlow_pd, tjlow_kn, tjlow_kt, tjlow_kts, tjlow_met, this, if_false]; exact L.lw v hv
  · intro w e hd
    rcases hd with hd | rfl
    · exact L.l1 w e hd
    · exact h.1
  · simp only [tjlow_ord, tjlow_low, tjlow_pile, tjlow_pd, tjlow_kn, tjlow_kt, tjlow_kts, tjlow_met, if_true]
    rcases Nat.le_total (s.low i) (s.ord on) with hle | hle
    · rw [Nat.min_eq_left hle]; exact L.l2
    · rw [Nat.min_eq_right hle]; exact ⟨on, h, rfl, Rch.one he⟩
  · simp only [tjlow_ord, tjlow_low, tjlow_pile, tjlow_pd, tjlow_kn, tjlow_kt, tjlow_kts, tjlow_met, if_true]; have := L.l2b; omega
  · intro v w hv hle hw e hd
    simp only [tjlow_ord, tjlow_low, tjlow_pile, tjlow_pd, tjlow_kn, tjlow_kt, tjlow_kts, tjlow_met, if_true]
    by_cases hc : v = i → D w
    · have := L.l3 v w hv hle hw e hc; omega
    · have hvi : v = i := Classical.byContradiction fun hn => hc (fun e => absurd e hn)
      rcases hd hvi with hd | rfl
      · exact absurd (fun _ => hd) hc
      · omega

/-- a successor that was gone into. -/
theorem TjL.went {V E gr i D s0 s s'} (L : TjL V E gr i D s0 s) {on : Nat} (he : E i on) (h0 : s.ord on = 0) (P : TjP V E (fun v => gr v ∨ v = i) on s s') :
    TjL V E gr i (fun w => D w ∨ w = on) s0 (tjlow s' i (min (s'.low i) (s'.low on))) := by
  have X := P.X
  have hi0 : s.ord i ≠ 0 := L.ii.1
  have hoi : s'.ord i = s.ord i := X.o i hi0
  have hli : s'.low i = s.low i := X.lw i hi0
  have hon : s'.ord on = s.met + 1 := P.oi
  have him : s.ord i ≤ s.met := L.I.a1 i
  have hs0 : ∀ v, s0.ord v ≠ 0 → s.ord v ≠ 0 := fun v hv => by rw [L.o v hv]; exact hv
  refine ⟨⟨P.I.a1, P.I.a2, P.I.a3, P.I.p1, P.I.p2, P.I.p3, P.I.p4, P.I.g1, P.I.i5, P.I.i6, P.I.i7, P.I.i8, P.I.i8b, P.I.i9, P.I.i10, P.I.i11⟩, ?_, ?_, ?_, ?_, ?_, ?_, ?_, ?_, ?_, L.w0, ?_, L.b0, ?_, ?_, ?_, ?_, ?_, ?_⟩
  · intro v hv; show s'.ord v = _; rw [X.o v (hs0 v hv)]; exact L.o v hv
  · intro v hv
    have : v ≠ i := fun e => hv (e ▸ L.w0)
    simp only [tjlow_ord, tjlow_low, tjlow_pile, tjlow_pd, tjlow_kn, tjlow_kt, tjlow_kts, tjlow_met, this, if_false]; rw [X.lw v (hs0 v hv)]; exact L.lw v hv
  · intro v k hv; exact X.k v k (L.k v k hv)
  · intro v hv; exact X.ip v (L.ip v hv)
  · intro v hv hv'
    show s0.met < s'.ord v
    by_cases e : s.ord v = 0
    · have := X.n v e hv'; have := L.oi; omega
    · have := L.n v hv e; rw [X.o v e]; exact this
  · show s0.pd < s'.pd; have := X.pd; have := L.pd; omega
  · intro k hk; show s'.pile k = _; rw [X.pl k (by have := L.pd; omega)]; exact L.pl k hk
  · show s'.pile _ = _; rw [X.pl _ L.pd]; exact L.pi
  · exact Nat.le_trans L.kts X.kts
  · intro g hg
    show s'.ord g < s'.ord i
    rw [hoi, X.o g (L.I.g1 g (.inl hg)).1]; exact L.gb g hg
  · show s'.ord i = _; rw [hoi]; exact L.oi
  · exact X.ip i L.ii
  · intro w e hd
    rcases hd with hd | rfl
    · have := L.l1 w e hd; show s'.ord w ≠ 0; rw [X.o w this]; exact this
    · show s'.ord w ≠ 0; omega
  · simp only [tjlow_ord, tjlow_low, tjlow_pile, tjlow_pd, tjlow_kn, tjlow_kt, tjlow_kts, tjlow_met, if_true]
    have hold : ∃ y, s'.inp y ∧ s'.ord y = s'.low i ∧ Rch E i y := by
      obtain ⟨y, hy, e, r⟩ := L.l2
      exact ⟨y, X.ip y hy, by rw [X.o y hy.1, hli]; exact e, r⟩
    rcases Nat.le_total (s'.low i) (s'.low on) with hle | hle
    · rw [Nat.min_eq_left hle]; exact hold
    · rcases P.r with ⟨_, _, h3⟩ | ⟨_, ⟨y, hy, e, r⟩, _, _⟩
      · have := L.l2b
        rw [Nat.min_eq_left (by omega)]; exact hold
      · rw [Nat.min_eq_right hle]; exact ⟨y, hy, e, Rch.head he r⟩
  · simp only [tjlow_ord, tjlow_low, tjlow_pile, tjlow_pd, tjlow_kn, tjlow_kt, tjlow_kts, tjlow_met, if_true]; have := L.l2b; omega
  · intro v w hv hle hw e hd
    replace hv : s'.inp v := hv
    replace hw : s'.inp w := hw
    replace hle : s'.ord i ≤ s'.ord v := hle
    have goal : min (s'.low i) (s'.low on) ≤ s'.ord w := by
      by_cases v0 : s.ord v = 0
      · -- v is new
        have hvn := X.n v v0 hv.1
        rcases P.r with ⟨_, h2, _⟩ | ⟨_, _, _, h4⟩
        · obtain ⟨k, hk, ek⟩ := P.I.p2 v hv
          rw [h2] at hk
          rw [X.pl k hk] at ek
          exact absurd v0 (ek ▸ (L.I.p1 k hk).1)
        · have := h4 v w hv (by omega) hw e
          omega
      · have hov := X.o v v0
        have hkv : s.kn v = none := by
          cases hk : s.kn v with
          | none => rfl
          | some k => have := X.k v k hk; rw [hv.2] at this; exact absurd this (by simp)
        have hvi : s.inp v := ⟨v0, hkv⟩
        have old : s.ord w ≠ 0 → (v = i → D w) → min (s'.low i) (s'.low on) ≤ s'.ord w := by
          intro w0 hD
          have hkw : s.kn w = none := by
            cases hk : s.kn w with
            | none => rfl
            | some k => have := X.k w k hk; rw [hw.2] at this; exact absurd this (by simp)
          have := L.l3 v w hvi (by omega) ⟨w0, hkw⟩ e hD
          rw [X.o w w0]
          omega
        by_cases hvi' : v = i
        · rcases hd hvi' with hd | rfl
          · exact old (by rw [hvi'] at e; exact L.l1 w e hd) (fun _ => hd)
          · rcases P.r with ⟨h1, _, _⟩ | ⟨_, _, h3, _⟩
            · exact absurd hw.2 h1
            · omega
        · have hg : ¬ gr v := by
            intro hg
            have := L.gb v hg
            omega
          exact old (L.I.i7 v w v0 (fun h => h.elim hg hvi') e) (fun h => absurd h hvi')
    simpa [tjlow_low, tjlow_ord] using goal

/-- i is tjdone, and it hangs on one ahead. -/
theorem TjL.stays {V E gr i s0 s} (L : TjL V E gr i (fun _ => True) s0 s) (h : s.low i ≠ s.ord i) : TjP V E gr i s0 s := by
  have hlt : s.low i < s.ord i := by have := L.l2b; omega
  refine ⟨⟨L.I.a1, L.I.a2, L.I.a3, L.I.p1, L.I.p2, L.I.p3, L.I.p4, fun v hv => L.I.g1 v (.inl hv), L.I.i5, ?_, ?_, L.I.i8, L.I.i8b, L.I.i9, L.I.i10, L.I.i11⟩, ⟨L.o, L.lw, L.k, L.ip, L.n, ?_, Nat.le_of_lt L.pd, L.pl, L.kts⟩, L.oi, .inr ⟨L.ii.2, L.l2, hlt, ?_⟩⟩
  · intro v hv
    obtain ⟨g, hg, hle, r⟩ := L.I.i6 v hv
    rcases hg with hg | rfl
    · exact ⟨g, hg, hle, r⟩
    · obtain ⟨y, hy, ey, ry⟩ := L.l2
      obtain ⟨g', hg', hle', r'⟩ := L.I.i6 y hy
      rcases hg' with hg' | rfl
      · exact ⟨g', hg', by omega, r.trans (ry.trans r')⟩
      · omega
  · intro v w hv hg e
    by_cases hvi : v = i
    · rw [hvi] at e; exact L.l1 w e trivial
    · exact L.I.i7 v w hv (fun h => h.elim hg hvi) e
  · have := L.I.a1 i; have := L.oi; omega
  · intro v w hv hle hw e
    exact L.l3 v w hv hle hw e (fun _ => trivial)

def tjclose (s : TjS) (i p : Nat) (b : Bool) : TjS :=
  (s.ord, s.low, s.pile, p, fun v => if s.ord v ≠ 0 ∧ s.kn v = none ∧ s.ord i ≤ s.ord v then some s.kts else s.kn v, fun k => if k = s.kts then b else s.kt k, s.kts + 1, s.met)
theorem tjclose_ord (s : TjS) (i p : Nat) (b : Bool) : (tjclose s i p b).ord = s.ord := rfl
theorem tjclose_low (s : TjS) (i p : Nat) (b : Bool) : (tjclose s i p b).low = s.low := rfl
theorem tjclose_pile (s : TjS) (i p : Nat) (b : Bool) : (tjclose s i p b).pile = s.pile := rfl
theorem tjclose_pd (s : TjS) (i p : Nat) (b : Bool) : (tjclose s i p b).pd = p := rfl
theorem tjclose_kn (s : TjS) (i p : Nat) (b : Bool) : (tjclose s i p b).kn = fun v => if s.ord v ≠ 0 ∧ s.kn v = none ∧ s.ord i ≤ s.ord v then some s.kts else s.kn v := rfl
theorem tjclose_kt (s : TjS) (i p : Nat) (b : Bool) : (tjclose s i p b).kt = fun k => if k = s.kts then b else s.kt k := rfl
theorem tjclose_kts (s : TjS) (i p : Nat) (b : Bool) : (tjclose s i p b).kts = s.kts + 1 := rfl
theorem tjclose_met (s : TjS) (i p : Nat) (b : Bool) : (tjclose s i p b).met = s.met := rfl

theorem TjI.shut {V E gr s} (I : TjI V E gr s) {a b : Nat} (r : Rch E a b) : ∀ k, s.kn a = some k → ∃ k', k' ≤ k ∧ s.kn b = some k' := by
  refine Rch.ind (P := fun z => ∀ k, s.kn z = some k → ∃ k', k' ≤ k ∧ s.kn b = some k') (fun k h => ⟨k, Nat.le_refl _, h⟩) ?_ r
  intro x y e _ ih k h
  obtain ⟨k1, h1, e1⟩ := I.i8b _ k _ h e
  obtain ⟨k2, h2, e2⟩ := ih k1 e1
  exact ⟨k2, by omega, e2⟩

theorem TjL.closes {V E gr i s0 s b} (L : TjL V E gr i (fun _ => True) s0 s) (h : s.low i = s.ord i)
    (hb : b = true ↔ (∃ v, v ≠ i ∧ s.inp v ∧ s.ord i ≤ s.ord v) ∨ E i i) : TjP V E gr i s0 (tjclose s i s0.pd b) := by
  have hSe : ∀ v w, s.inp v → s.ord i ≤ s.ord v → E v w → (∃ k, s.kn w = some k) ∨ (s.inp w ∧ s.ord i ≤ s.ord w) := by
    intro v w hv hle e
    have w0 : s.ord w ≠ 0 := by
      by_cases hvi : v = i
      · rw [hvi] at e; exact L.l1 w e trivial
      · refine L.I.i7 v w hv.1 (fun hg => ?_) e
        rcases hg with hg | hg
        · have := L.gb v hg; omega
        · exact hvi hg
    cases hk : s.kn w with
    | some k => exact .inl ⟨k, rfl⟩
    | none => exact .inr ⟨⟨w0, hk⟩, h ▸ L.l3 v w hv hle ⟨w0, hk⟩ e (fun _ => trivial)⟩
  have hSi : ∀ v, s.inp v → s.ord i ≤ s.ord v → Rch E v i := by
    intro v hv hle
    obtain ⟨g, hg, hgl, r⟩ := L.I.i6 v hv
    rcases hg with hg | rfl
    · exfalso
      have hgi := L.gb g hg
      obtain ⟨x, y, hx, hy, e, r'⟩ := r.leaves (S := fun v => s.inp v ∧ s.ord i ≤ s.ord v) ⟨hv, hle⟩ (fun hh => by have := hh.2; omega)
      rcases hSe x y hx.1 hx.2 e with ⟨k, hk⟩ | hh
      · obtain ⟨k', _, hk'⟩ := L.I.shut r' k hk
        rw [(L.I.g1 g (.inl hg)).2] at hk'; exact absurd hk' (by simp)
      · exact hy hh
    · exact r
  have hk' : ∀ v, s.inp v → s.ord i ≤ s.ord v → (tjclose s i s0.pd b).kn v = some s.kts := by
    intro v hv hle
    simp only [tjclose_ord, tjclose_low, tjclose_pile, tjclose_pd, tjclose_kn, tjclose_kt, tjclose_kts, tjclose_met]; rw [if_pos ⟨hv.1, hv.2, hle⟩]
  have hk0 : ∀ v, ¬ (s.inp v ∧ s.ord i ≤ s.ord v) → (tjclose s i s0.pd b).kn v = s.kn v := by
    intro v hn
    simp only [tjclose_ord, tjclose_low, tjclose_pile, tjclose_pd, tjclose_kn, tjclose_kt, tjclose_kts, tjclose_met]; rw [if_neg (fun hh => hn ⟨⟨hh.1, hh.2.1⟩, hh.2.2⟩)]
  have hin : ∀ v, (tjclose s i s0.pd b).inp v ↔ s.inp v ∧ s.ord v < s.ord i := by
    intro v
    by_cases hc : s.inp v ∧ s.ord i ≤ s.ord v
    · constructor
      · intro hh; have := hh.2; rw [hk' v hc.1 hc.2] at this; exact absurd this (by simp)
      · intro hh; omega
    · constructor
      · intro hh
        have h2 := hh.2; rw [hk0 v hc] at h2
        have hi : s.inp v := ⟨hh.1, h2⟩
        refine ⟨hi, Nat.lt_of_not_le fun hle => hc ⟨hi, hle⟩⟩
      · intro hh
        refine ⟨hh.1.1, ?_⟩
        rw [hk0 v hc]; exact hh.1.2
  have hkk : ∀ v k, (tjclose s i s0.pd b).kn v = some k → (s.kn v = some k ∧ k < s.kts) ∨ (k = s.kts ∧ s.inp v ∧ s.ord i ≤ s.ord v) := by
    intro v k hv
    by_cases hc : s.inp v ∧ s.ord i ≤ s.ord v
    · rw [hk' v hc.1 hc.2] at hv; exact .inr ⟨(Option.some.inj hv).symm, hc.1, hc.2⟩
    · rw [hk0 v hc] at hv; exact .inl ⟨hv, L.I.i8 v k hv⟩
  have hks : ∀ v k, s.kn v = some k → (tjclose s i s0.pd b).kn v = some k := by
    intro v k hv
    rw [hk0 v (fun hh => by rw [hh.1.2] at hv; exact absurd hv (by simp))]; exact hv
  have hpi : ∀ k, k < s0.pd → s.ord (s.pile k) < s.ord i := by
    intro k hk
    have := L.I.p3 k s0.pd hk L.pd
    rw [L.pi] at this; exact this
  refine ⟨⟨L.I.a1, L.I.a2, L.I.a3, ?_, ?_, ?_, ?_, ?_, ?_, ?_, ?_, ?_, ?_, ?_, ?_, ?_⟩, ⟨L.o, L.lw, fun v k hv => hks v k (L.k v k hv), ?_, L.n, ?_, Nat.le_refl _, L.pl, Nat.le_succ_of_le L.kts⟩, L.oi, .inl ⟨?_, rfl, ?_⟩⟩
  · intro k hk
    rw [hin]; exact ⟨L.I.p1 k (Nat.lt_trans hk L.pd), hpi k hk⟩
  · intro v hv
    obtain ⟨hv, hlt⟩ := (hin v).1 hv
    obtain ⟨k, hk, e⟩ := L.I.p2 v hv
    refine ⟨k, ?_, e⟩
    show k < s0.pd
    apply Nat.lt_of_not_le
    intro hle
    rcases Nat.lt_or_eq_of_le hle with hl | hl
    · have := L.I.p3 s0.pd k hl hk
      rw [L.pi, e] at this; omega
    · rw [← hl, L.pi] at e; rw [e] at hlt; omega
  · intro j k hjk hk; exact L.I.p3 j k hjk (Nat.lt_trans hk L.pd)
  · intro v hv
    rw [hk0 v (fun hh => hh.1.1 hv)]; exact L.I.p4 v hv
  · intro v hv; rw [hin]; exact ⟨L.I.g1 v (.inl hv), L.gb v hv⟩
  · intro v w hv hw hle
    exact L.I.i5 v w ((hin v).1 hv).1 ((hin w).1 hw).1 hle
  · intro v hv
    obtain ⟨hv, hlt⟩ := (hin v).1 hv
    obtain ⟨g, hg, hle, r⟩ := L.I.i6 v hv
    rcases hg with hg | rfl
    · exact ⟨g, hg, hle, r⟩
    · omega
  · intro v w hv hg e
    by_cases hvi : v = i
    · rw [hvi] at e; exact L.l1 w e trivial
    · exact L.I.i7 v w hv (fun h => h.elim hg hvi) e
  · intro v k hv
    show k < s.kts + 1
    rcases hkk v k hv with ⟨_, h⟩ | ⟨h, _⟩ <;> omega
  · intro v k w hv e
    rcases hkk v k hv with ⟨hv, hlt⟩ | ⟨rfl, hv, hle⟩
    · obtain ⟨k', hle, hk⟩ := L.I.i8b v k w hv e
      exact ⟨k', hle, hks w k' hk⟩
    · rcases hSe v w hv hle e with ⟨k, hk⟩ | hh
      · exact ⟨k, Nat.le_of_lt (L.I.i8 w k hk), hks w k hk⟩
      · exact ⟨_, Nat.le_refl _, hk' w hh.1 hh.2⟩
  · intro v w k hv hw
    rcases hkk v k hv with ⟨hv, hlt⟩ | ⟨ev, hv, hle⟩ <;> rcases hkk w k hw with ⟨hw, hlt'⟩ | ⟨ew, hw, hle'⟩
    · exact L.I.i9 v w k hv hw
    · omega
    · omega
    · exact (hSi v hv hle).trans (L.I.i5 i w L.ii hw hle')
  · intro k hk
    replace hk : k < s.kts + 1 := hk
    by_cases e : k = s.kts
    · exact ⟨i, by rw [e]; exact hk' i L.ii (Nat.le_refl _)⟩
    · obtain ⟨v, hv⟩ := L.I.i10 k (by omega)
      exact ⟨v, hks v k hv⟩
  · intro k hk
    replace hk : k < s.kts + 1 := hk
    by_cases e : k = s.kts
    · have e1 : (tjclose s i s0.pd b).kt k = b := by simp [tjclose_ord, tjclose_low, tjclose_pile, tjclose_pd, tjclose_kn, tjclose_kt, tjclose_kts, tjclose_met, e]
      have hki := hk' i L.ii (Nat.le_refl _)
      rw [e1, hb]
      constructor
      · rintro (⟨v, hv, hi, hle⟩ | he)
        · exact .inl ⟨v, i, hv, by rw [e]; exact hk' v hi hle, by rw [e]; exact hki⟩
        · exact .inr ⟨i, by rw [e]; exact hki, he⟩
      · rintro (⟨v, w, hne, hv, hw⟩ | ⟨v, hv, he⟩)
        · rcases hkk v k hv with ⟨_, hlt⟩ | ⟨_, hv, hle⟩
          · omega
          · rcases hkk w k hw with ⟨_, hlt⟩ | ⟨_, hw, hle'⟩
            · omega
            · by_cases hvi : v = i
              · exact .inl ⟨w, fun h => hne (hvi.trans h.symm), hw, hle'⟩
              · exact .inl ⟨v, hvi, hv, hle⟩
        · rcases hkk v k hv with ⟨_, hlt⟩ | ⟨_, hv, hle⟩
          · omega
          · by_cases hvi : v = i
            · exact .inr (hvi ▸ he)
            · exact .inl ⟨v, hvi, hv, hle⟩
    · have e1 : (tjclose s i s0.pd b).kt k = s.kt k := by simp [tjclose_ord, tjclose_low, tjclose_pile, tjclose_pd, tjclose_kn, tjclose_kt, tjclose_kts, tjclose_met, e]
      have hlt : k < s.kts := by omega
      rw [e1, L.I.i11 k hlt]
      have hkv : ∀ v, (tjclose s i s0.pd b).kn v = some k ↔ s.kn v = some k := by
        intro v
        constructor
        · intro hv
          rcases hkk v k hv with ⟨hv, _⟩ | ⟨h, _⟩
          · exact hv
          · exact absurd h e
        · exact hks v k
      simp only [hkv]
  · intro v hv
    rw [hin]
    refine ⟨L.ip v hv, ?_⟩
    rw [L.o v hv.1, L.oi]; have := L.b0 v; omega
  · show s0.met ≤ s.met; have := L.I.a1 i; have := L.oi; omega
  · rw [hk' i L.ii (Nat.le_refl _)]; simp
  · exact h

/-- what Tarjan's walk leaves, when all are met. -/
theorem tjdone {V E s} (I : TjI V E (fun _ => False) s) (hV : ∀ v, V v → s.ord v ≠ 0) (hE : ∀ v w, E v w → V v ∧ V w) :
    (∀ v, V v → ∃ k, k < s.kts ∧ s.kn v = some k) ∧ (∀ v, ¬ V v → s.kn v = none) ∧
    (∀ v w k, s.kn v = some k → E v w → ∃ k', k' ≤ k ∧ s.kn w = some k') ∧
    (∀ v w, V v → V w → (s.kn v = s.kn w ↔ Rch E v w ∧ Rch E w v)) ∧
    (∀ k, k < s.kts → ∃ v, V v ∧ s.kn v = some k) ∧
    (∀ v k, s.kn v = some k → (s.kt k = true ↔ ∃ w, E v w ∧ Rch E w v)) := by
  have h1 : ∀ v, V v → ∃ k, k < s.kts ∧ s.kn v = some k := by
    intro v hv
    cases hk : s.kn v with
    | some k => exact ⟨k, I.i8 v k hk, rfl⟩
    | none =>
      obtain ⟨g, hg, _⟩ := I.i6 v ⟨hV v hv, hk⟩
      exact hg.elim
  have hVk : ∀ v k, s.kn v = some k → V v := by
    intro v k hk
    refine Classical.byContradiction fun hn => ?_
    have : s.ord v = 0 := Classical.byContradiction fun h => hn (I.a3 v h)
    rw [I.p4 v this] at hk; exact absurd hk (by simp)
  refine ⟨h1, ?_, fun v w k => I.i8b v k w, ?_, ?_, ?_⟩
  · intro v hn
    cases hk : s.kn v with
    | none => rfl
    | some k => exact absurd (hVk v k hk) hn
  · intro v w hv hw
    obtain ⟨k, _, ek⟩ := h1 v hv
    obtain ⟨k', _, ek'⟩ := h1 w hw
    constructor
    · intro e
      have e' : s.kn w = some k := by rw [← e]; exact ek
      exact ⟨I.i9 v w k ek e', I.i9 w v k e' ek⟩
    · rintro ⟨r1, r2⟩
      obtain ⟨a, ha, ea⟩ := I.shut r1 k ek
      obtain ⟨c, hc, ec⟩ := I.shut r2 k' ek'
      rw [ek'] at ea; rw [ek] at ec
      have := Option.some.inj ea; have := Option.some.inj ec
      rw [ek, ek']; congr 1; omega
  · intro k hk
    obtain ⟨v, hv⟩ := I.i10 k hk
    exact ⟨v, hVk v k hv, hv⟩
  · intro v k hk
    rw [I.i11 k (I.i8 v k hk)]
    constructor
    · rintro (⟨a, c, hne, ha, hc⟩ | ⟨a, ha, e⟩)
      · -- some other one w than v
        have : ∃ w, w ≠ v ∧ s.kn w = some k := by
          by_cases h : a = v
          · exact ⟨c, fun e => hne (h.trans e.symm), hc⟩
          · exact ⟨a, h, ha⟩
        obtain ⟨w, hw, ew⟩ := this
        have r := I.i9 v w k hk ew
        rcases r.cas with e | ⟨c, e, r'⟩
        · exact absurd e.symm hw
        · exact ⟨_, e, r'.trans (I.i9 w v k ew hk)⟩
      · have r := I.i9 v a k hk ha
        rcases r.cas with e0 | ⟨c, e', r'⟩
        · subst e0; exact ⟨v, e, Rch.refl _⟩
        · exact ⟨_, e', r'.trans (I.i9 a v k ha hk)⟩
    · rintro ⟨w, e, r⟩
      obtain ⟨a, ha, ea⟩ := I.i8b v k w hk e
      obtain ⟨c, hc, ec⟩ := I.shut r a ea
      rw [hk] at ec
      have : k = c := Option.some.inj ec
      have : a = k := by omega
      subst this
      by_cases h : w = v
      · exact .inr ⟨v, hk, h ▸ e⟩
      · exact .inl ⟨v, w, fun e => h e.symm, hk, ea⟩
end
section
/-- one step and more. -/
def Trc (E : Nat → Nat → Prop) (a b : Nat) : Prop := ∃ c, E a c ∧ Rch E c b

theorem Trc.trans {E : Nat → Nat → Prop} {a b c : Nat} (h : Trc E a b) (g : Trc E b c) : Trc E a c := by
  obtain ⟨x, e, r⟩ := h
  obtain ⟨y, e', r'⟩ := g
  exact ⟨x, e, r.trans (Rch.head e' r')⟩

def Wa (R : Nat → Nat → Prop) : Nat → Nat → Nat → Prop
  | 0, a, b => R a b
  | k + 1, a, b => Wa R k a b ∨ (Wa R k a k ∧ Wa R k k b)

theorem Wa.sound {R : Nat → Nat → Prop} : ∀ k a b, Wa R k a b → Trc R a b
  | 0, _, b, h => ⟨b, h, Rch.refl _⟩
  | k + 1, a, b, h => by
    rcases h with h | ⟨h1, h2⟩
    · exact Wa.sound k a b h
    · exact (Wa.sound k a k h1).trans (Wa.sound k k b h2)

theorem Wa.thr {R : Nat → Nat → Prop} : ∀ k c, c < k → ∀ a b, Wa R k a c → Wa R k c b → Wa R k a b
  | k + 1, c, hc, a, b, h1, h2 => by
    by_cases e : c = k
    · subst e
      have h1' : Wa R c a c := h1.elim id (·.1)
      have h2' : Wa R c c b := h2.elim id (·.2)
      exact .inr ⟨h1', h2'⟩
    · have hk : c < k := by omega
      rcases h1 with h1 | ⟨h1, h1'⟩ <;> rcases h2 with h2 | ⟨h2, h2'⟩
      · exact .inl (Wa.thr k c hk a b h1 h2)
      · exact .inr ⟨Wa.thr k c hk a k h1 h2, h2'⟩
      · exact .inr ⟨h1, Wa.thr k c hk k b h1' h2⟩
      · exact .inr ⟨h1, h2'⟩

theorem Wa.mono {R : Nat → Nat → Prop} {a b} : ∀ k, R a b → Wa R k a b
  | 0, h => h
  | k + 1, h => .inl (Wa.mono k h)

theorem Wa.all {R : Nat → Nat → Prop} {N : Nat} (hR : ∀ a b, R a b → b < N) {a b : Nat} : Wa R N a b ↔ Trc R a b := by
  constructor
  · exact Wa.sound N a b
  · rintro ⟨c, e, r⟩
    have : ∀ x, R x c → Wa R N x b := by
      clear e
      refine Rch.ind (P := fun z => ∀ x, R x z → Wa R N x b) (fun x h => Wa.mono N h) ?_ r
      intro y z e _ ih x h
      exact Wa.thr N y (hR _ _ h) x b (Wa.mono N h) (ih y e)
    exact this a e

theorem Rch.iff {E : Nat → Nat → Prop} {a b : Nat} : Rch E a b ↔ a = b ∨ Trc E a b := by
  constructor
  · intro h
    rcases h.cas with e | ⟨c, e, r⟩
    · exact .inl e
    · exact .inr ⟨c, e, r⟩
  · rintro (rfl | ⟨c, e, r⟩)
    · exact Rch.refl _
    · exact Rch.head e r
end
section
def updN {α : Type} (v : Nat → α) (j : Nat) (x : α) : Nat → α := fun k => if k = j then x else v k

theorem updN_same {α : Type} (v : Nat → α) (j : Nat) (x : α) : updN v j x j = x := by simp [updN]
theorem updN_ne {α : Type} (v : Nat → α) {j k : Nat} (x : α) (h : k ≠ j) : updN v j x k = v k := by simp [updN, h]

abbrev Vl := Nat → Int32

/-- a turn over members in their order. -/
def stepT (F : Nat → Vl → Int32) (s : Vl × Bool) (j : Nat) : Vl × Bool := (updN s.1 j (F j s.1), s.2 || decide (F j s.1 ≠ s.1 j))

def turnT (F : Nat → Vl → Int32) (L : List Nat) (v : Vl) : Vl × Bool := L.foldl (stepT F) (v, false)

def runT (F : Nat → Vl → Int32) (L : List Nat) : Nat → Nat → Vl × Bool → Vl × Nat × Bool
  | 0, n, s => (s.1, n, s.2)
  | f + 1, n, s => if s.2 then runT F L f (n + 1) (turnT F L s.1) else (s.1, n, false)

def zeroT (L : List Nat) (v : Vl) : Vl := fun k => if k ∈ L then 0 else v k

def knotT (F : Nat → Vl → Int32) (L : List Nat) (v : Vl) : Vl × Nat × Bool := runT F L 64 0 (zeroT L v, true)

section
variable {F F' : Nat → Vl → Int32} {L : List Nat} {σ : Nat → Nat} {D : Nat → Prop}

def Agr (σ : Nat → Nat) (D : Nat → Prop) (v v' : Vl) : Prop := ∀ x, D x → v' (σ x) = v x

theorem step_tr (hL : ∀ j, j ∈ L → D j) (hσ : ∀ x y, D x → D y → σ x = σ y → x = y)
    (hF : ∀ j, j ∈ L → ∀ w w', Agr σ D w w' → F' (σ j) w' = F j w) {j : Nat} (hj : j ∈ L) {s s' : Vl × Bool} (h : Agr σ D s.1 s'.1) (hb : s'.2 = s.2) :
    Agr σ D (stepT F s j).1 (stepT F' s' (σ j)).1 ∧ (stepT F' s' (σ j)).2 = (stepT F s j).2 := by
  have e := hF j hj _ _ h
  constructor
  · intro x hx
    simp only [stepT, updN]
    by_cases hx' : x = j
    · simp [hx', e]
    · have : σ x ≠ σ j := fun hh => hx' (hσ x j hx (hL j hj) hh)
      simp [hx', this, h x hx]
  · simp only [stepT, e, hb, h j (hL j hj)]

theorem turn_tr (hL : ∀ j, j ∈ L → D j) (hσ : ∀ x y, D x → D y → σ x = σ y → x = y)
    (hF : ∀ j, j ∈ L → ∀ w w', Agr σ D w w' → F' (σ j) w' = F j w) {v v' : Vl} (h : Agr σ D v v') :
    Agr σ D (turnT F L v).1 (turnT F' (L.map σ) v').1 ∧ (turnT F' (L.map σ) v').2 = (turnT F L v).2 := by
  have key : ∀ (M : List Nat), (∀ j, j ∈ M → j ∈ L) → ∀ s s' : Vl × Bool, Agr σ D s.1 s'.1 → s'.2 = s.2 →
      Agr σ D (M.foldl (stepT F) s).1 ((M.map σ).foldl (stepT F') s').1 ∧ ((M.map σ).foldl (stepT F') s').2 = (M.foldl (stepT F) s).2 := by
    intro M
    induction M with
    | nil => intro _ s s' h hb; exact ⟨h, hb⟩
    | cons j M ih =>
      intro hM s s' h hb
      have := step_tr (F' := F') hL hσ hF (hM j (by simp)) h hb
      exact ih (fun k hk => hM k (by simp [hk])) _ _ this.1 this.2
  exact key L (fun _ h => h) (v, false) (v', false) h rfl

theorem run_tr (hL : ∀ j, j ∈ L → D j) (hσ : ∀ x y, D x → D y → σ x = σ y → x = y)
    (hF : ∀ j, j ∈ L → ∀ w w', Agr σ D w w' → F' (σ j) w' = F j w) : ∀ (f n : Nat) (s s' : Vl × Bool), Agr σ D s.1 s'.1 → s'.2 = s.2 →
    Agr σ D (runT F L f n s).1 (runT F' (L.map σ) f n s').1 ∧ (runT F' (L.map σ) f n s').2 = (runT F L f n s).2
  | 0, n, s, s', h, hb => by simp only [runT]; exact ⟨h, by rw [hb]⟩
  | f + 1, n, s, s', h, hb => by
    simp only [runT, hb]
    by_cases hc : s.2 = true
    · simp only [hc, if_true]
      have := turn_tr (F := F) (F' := F') hL hσ hF h
      exact run_tr hL hσ hF f (n + 1) _ _ this.1 this.2
    · simp only [hc]
      exact ⟨h, rfl⟩

theorem knot_tr (hL : ∀ j, j ∈ L → D j) (hσ : ∀ x y, D x → D y → σ x = σ y → x = y)
    (hF : ∀ j, j ∈ L → ∀ w w', Agr σ D w w' → F' (σ j) w' = F j w) {v v' : Vl} (h : ∀ x, D x → x ∉ L → v' (σ x) = v x) :
    Agr σ D (knotT F L v).1 (knotT F' (L.map σ) v').1 ∧ (knotT F' (L.map σ) v').2 = (knotT F L v).2 := by
  refine run_tr hL hσ hF 64 0 _ _ ?_ rfl
  intro x hx
  simp only [zeroT]
  by_cases hx' : x ∈ L
  · have : σ x ∈ L.map σ := List.mem_map.2 ⟨x, hx', rfl⟩
    simp [hx', this]
  · have : σ x ∉ L.map σ := by
      intro hh
      obtain ⟨y, hy, e⟩ := List.mem_map.1 hh
      exact hx' (hσ y x (hL y hy) hx e ▸ hy)
    simp only [hx', this, if_false]; exact h x hx hx'
end

/-- outside the members nothing changes. -/
theorem turn_out {F : Nat → Vl → Int32} {L : List Nat} {x : Nat} (hx : x ∉ L) (v : Vl) : (turnT F L v).1 x = v x := by
  have key : ∀ (M : List Nat), x ∉ M → ∀ s : Vl × Bool, (M.foldl (stepT F) s).1 x = s.1 x := by
    intro M
    induction M with
    | nil => intro _ s; rfl
    | cons j M ih =>
      intro hx s
      simp only [List.mem_cons, not_or] at hx
      simp only [List.foldl_cons]
      rw [ih hx.2]
      simp [stepT, updN, hx.1]
  exact key L hx (v, false)

theorem run_out {F : Nat → Vl → Int32} {L : List Nat} {x : Nat} (hx : x ∉ L) : ∀ (f n : Nat) (s : Vl × Bool), (runT F L f n s).1 x = s.1 x
  | 0, _, _ => rfl
  | f + 1, n, s => by
    simp only [runT]
    split
    · rw [run_out hx f]; exact turn_out hx _
    · rfl

theorem knot_out {F : Nat → Vl → Int32} {L : List Nat} {x : Nat} (hx : x ∉ L) (v : Vl) : (knotT F L v).1 x = v x := by
  rw [knotT, run_out hx]; simp [zeroT, hx]

/-- the members of the knot of i, below M. -/
noncomputable def cls (E : Nat → Nat → Prop) (M i : Nat) : List Nat := (List.range M).filter (fun j => @decide (Rch E i j ∧ Rch E j i) (Classical.propDecidable _))

theorem mem_cls {E : Nat → Nat → Prop} {M i j : Nat} : j ∈ cls E M i ↔ j < M ∧ Rch E i j ∧ Rch E j i := by
  simp [cls, List.mem_filter]

/-- a structure of instances: how many, which, what each hangs on, what its rule makes. -/
def Ist : Type := { q : Nat × (Nat → Prop) × (Nat → Nat → Prop) × (Nat → Vl → Int32) // (∀ v, q.2.1 v → v < q.1) ∧ (∀ v w, q.2.2.1 v w → q.2.1 v ∧ q.2.1 w) ∧ (∀ i, q.2.1 i → ∀ v w : Vl, (∀ j, q.2.2.1 i j → v j = w j) → q.2.2.2 i v = q.2.2.2 i w) }
def Ist.M (S : Ist) : Nat := S.1.1
def Ist.V (S : Ist) : Nat → Prop := S.1.2.1
def Ist.E (S : Ist) : Nat → Nat → Prop := S.1.2.2.1
def Ist.F (S : Ist) : Nat → Vl → Int32 := S.1.2.2.2
theorem Ist.hV (S : Ist) : ∀ v, S.V v → v < S.M := S.2.1
theorem Ist.hE (S : Ist) : ∀ v w, S.E v w → S.V v ∧ S.V w := S.2.2.1
theorem Ist.hF (S : Ist) : ∀ i, S.V i → ∀ v w : Vl, (∀ j, S.E i j → v j = w j) → S.F i v = S.F i w := S.2.2.2

def Sol (S : Ist) (v : Vl) (tn : Nat → Nat) (us : Nat → Bool) : Prop :=
  (∀ i, S.V i → ¬ Trc S.E i i → v i = S.F i v) ∧
  (∀ i, S.V i → Trc S.E i i → (∀ j, j ∈ cls S.E S.M i → (knotT S.F (cls S.E S.M i) v).1 j = v j) ∧ (knotT S.F (cls S.E S.M i) v).2 = (tn i, us i))
theorem Sol.one {S : Ist} {v : Vl} {tn : Nat → Nat} {us : Nat → Bool} (h9 : Sol S v tn us) : ∀ i, S.V i → ¬ Trc S.E i i → v i = S.F i v := h9.1
theorem Sol.knot {S : Ist} {v : Vl} {tn : Nat → Nat} {us : Nat → Bool} (h9 : Sol S v tn us) : ∀ i, S.V i → Trc S.E i i → (∀ j, j ∈ cls S.E S.M i → (knotT S.F (cls S.E S.M i) v).1 j = v j) ∧ (knotT S.F (cls S.E S.M i) v).2 = (tn i, us i) := h9.2

theorem Ist.rchV (S : Ist) {a b : Nat} (r : Rch S.E a b) : S.V a → S.V b :=
  Rch.ind (P := fun z => S.V z → S.V b) id (fun _ _ e _ ih _ => ih (S.hE _ _ e).2) r

theorem Ist.cls_V (S : Ist) {i j : Nat} (hi : S.V i) (h : j ∈ cls S.E S.M i) : S.V j := S.rchV (mem_cls.1 h).2.1 hi

theorem Ist.cls_self (S : Ist) {i : Nat} (hi : S.V i) : i ∈ cls S.E S.M i := mem_cls.2 ⟨S.hV i hi, Rch.refl _, Rch.refl _⟩

theorem cls_eq {E : Nat → Nat → Prop} {M i j : Nat} (h : Rch E i j) (h' : Rch E j i) : cls E M i = cls E M j := by
  unfold cls
  congr 1
  funext x
  have : (Rch E i x ∧ Rch E x i) ↔ (Rch E j x ∧ Rch E x j) := ⟨fun ⟨a, b⟩ => ⟨h'.trans a, b.trans h⟩, fun ⟨a, b⟩ => ⟨h.trans a, b.trans h'⟩⟩
  simp [this]

/-- The same on i: where all that its knot hangs on outside is the same, and rules are the same. -/
theorem Sol.same {S : Ist} {v v' tn tn' us us'} (A : Sol S v tn us) (B : Sol S v' tn' us') {i : Nat} (hi : S.V i)
    (h : ∀ j x, j ∈ cls S.E S.M i → S.E j x → x ∉ cls S.E S.M i → v' x = v x) : (∀ j, j ∈ cls S.E S.M i → v' j = v j) ∧ (Trc S.E i i → tn' i = tn i ∧ us' i = us i) := by
  by_cases hk : Trc S.E i i
  · have a := A.knot i hi hk
    have b := B.knot i hi hk
    have key := knot_tr (F := S.F) (F' := S.F) (L := cls S.E S.M i) (σ := id) (D := fun x => x ∈ cls S.E S.M i ∨ ∃ j, j ∈ cls S.E S.M i ∧ S.E j x)
      (fun j hj => .inl hj) (fun _ _ _ _ e => e) (fun j hj w w' hw => S.hF j (S.cls_V hi hj) _ _ (fun x hx => hw x (.inr ⟨j, hj, hx⟩))) (v := v) (v' := v')
      (fun x hx hx' => by
        rcases hx with hx | ⟨j, hj, e⟩
        · exact absurd hx hx'
        · exact h j x hj e hx')
    rw [List.map_id] at key
    refine ⟨fun j hj => ?_, fun _ => ?_⟩
    · have := key.1 j (.inl hj)
      rw [← a.1 j hj, ← b.1 j hj]; exact this
    · have := key.2
      rw [a.2, b.2] at this
      exact ⟨(Prod.mk.inj this).1, (Prod.mk.inj this).2⟩
  · refine ⟨fun j hj => ?_, fun hh => absurd hh hk⟩
    have hj' := mem_cls.1 hj
    have e : j = i := by
      rcases Rch.iff.1 hj'.2.1 with e | t
      · exact e.symm
      · rcases Rch.iff.1 hj'.2.2 with e | t'
        · exact e
        · exact absurd (t.trans t') hk
    subst e
    rw [A.one j hi hk, B.one j hi hk]
    refine S.hF j hi _ _ (fun x hx => h j x hj hx (fun hh => ?_))
    have hx' := (mem_cls.1 hh).2.2
    exact hk ⟨x, hx, hx'⟩

/-- recomputed over what is right outside, a knot is right. -/
theorem Sol.re {S : Ist} {v tn us} (A : Sol S v tn us) {i : Nat} (hi : S.V i) {u : Vl}
    (h : ∀ j x, j ∈ cls S.E S.M i → S.E j x → x ∉ cls S.E S.M i → u x = v x) :
    (Trc S.E i i → (∀ j, j ∈ cls S.E S.M i → (knotT S.F (cls S.E S.M i) u).1 j = v j) ∧ (knotT S.F (cls S.E S.M i) u).2 = (tn i, us i)) ∧
    (¬ Trc S.E i i → S.F i u = v i) := by
  constructor
  · intro hk
    have a := A.knot i hi hk
    have key := knot_tr (F := S.F) (F' := S.F) (L := cls S.E S.M i) (σ := id) (D := fun x => x ∈ cls S.E S.M i ∨ ∃ j, j ∈ cls S.E S.M i ∧ S.E j x)
      (fun j hj => .inl hj) (fun _ _ _ _ e => e) (fun j hj w w' hw => S.hF j (S.cls_V hi hj) _ _ (fun x hx => hw x (.inr ⟨j, hj, hx⟩))) (v := v) (v' := u)
      (fun x hx hx' => by
        rcases hx with hx | ⟨j, hj, e⟩
        · exact absurd hx hx'
        · exact h j x hj e hx')
    rw [List.map_id] at key
    refine ⟨fun j hj => ?_, ?_⟩
    · rw [← a.1 j hj]; exact key.1 j (.inl hj)
    · rw [← a.2]; exact key.2
  · intro hk
    rw [A.one i hi hk]
    refine S.hF i hi _ _ (fun x hx => h i x (S.cls_self hi) hx (fun hh => ?_))
    exact hk ⟨x, hx, (mem_cls.1 hh).2.2⟩

/-- how many one hangs on. -/
noncomputable def Ist.rk (S : Ist) (i : Nat) : Nat := ((List.range S.M).filter (fun x => @decide (Rch S.E i x) (Classical.propDecidable _))).length

theorem filt_le {α : Type} (p q : α → Bool) : ∀ (l : List α), (∀ x, x ∈ l → p x = true → q x = true) → (l.filter p).length ≤ (l.filter q).length
  | [], _ => Nat.le_refl _
  | a :: l, h => by
    have ih := filt_le p q l (fun x hx => h x (by simp [hx]))
    by_cases hp : p a = true
    · have hq := h a (by simp) hp
      simp [hp, hq, ih]
    · by_cases hq : q a = true
      · simp [hp, hq]; omega
      · simp [hp, hq, ih]

theorem filt_lt {α : Type} (p q : α → Bool) : ∀ (l : List α), (∀ x, x ∈ l → p x = true → q x = true) → (∃ x, x ∈ l ∧ q x = true ∧ p x ≠ true) → (l.filter p).length < (l.filter q).length
  | [], _, h => by obtain ⟨x, hx, _⟩ := h; simp at hx
  | a :: l, h, hx => by
    have hl := fun x hx => h x (List.mem_cons_of_mem a hx)
    have ih0 := filt_le p q l hl
    obtain ⟨x, hx, h1, h2⟩ := hx
    rcases List.mem_cons.1 hx with e | hx
    · subst e
      simp [h1, h2]; omega
    · have ih := filt_lt p q l hl ⟨x, hx, h1, h2⟩
      by_cases hp : p a = true
      · have hq := h a (by simp) hp
        simp [hp, hq, ih]
      · by_cases hq : q a = true
        · simp [hp, hq]; omega
        · simp [hp, hq, ih]

theorem Ist.rk_le (S : Ist) {a b : Nat} (r : Rch S.E a b) : S.rk b ≤ S.rk a := by
  refine filt_le _ _ _ (fun x _ h => ?_)
  simp only [decide_eq_true_eq] at h ⊢
  exact r.trans h

theorem Ist.rk_lt (S : Ist) {a b : Nat} (ha : S.V a) (r : Rch S.E a b) (n : ¬ Rch S.E b a) : S.rk b < S.rk a := by
  refine filt_lt _ _ _ (fun x _ h => ?_) ⟨a, by simpa using S.hV a ha, ?_, ?_⟩
  · simp only [decide_eq_true_eq] at h ⊢; exact r.trans h
  · exact @decide_eq_true _ (_) (Rch.refl _)
  · exact fun h => n (@of_decide_eq_true _ (_) h)

noncomputable def Ist.valF (S : Ist) : Nat → Vl
  | 0 => fun _ => 0
  | n + 1 => fun i =>
    @ite Int32 (Trc S.E i i) (Classical.propDecidable _) ((knotT S.F (cls S.E S.M i) (fun x => if S.rk x < S.rk i then S.valF n x else 0)).1 i)
    (S.F i (fun x => if S.rk x < S.rk i then S.valF n x else 0))

theorem Ist.valF_eq (S : Ist) : ∀ (n m i : Nat), S.rk i < n → S.rk i < m → S.valF n i = S.valF m i
  | 0, _, _, h, _ => by omega
  | _, 0, _, _, h => by omega
  | n + 1, m + 1, i, h, h' => by
    have : (fun x => if S.rk x < S.rk i then S.valF n x else 0) = (fun x => if S.rk x < S.rk i then S.valF m x else 0) := by
      funext x
      by_cases hx : S.rk x < S.rk i
      · simp only [hx, if_true]; exact S.valF_eq n m x (by omega) (by omega)
      · simp [hx]
    simp only [Ist.valF]
    rw [this]

noncomputable def Ist.val (S : Ist) : Vl := fun i => S.valF (S.rk i + 1) i
noncomputable def Ist.tn (S : Ist) (i : Nat) : Nat := (knotT S.F (cls S.E S.M i) S.val).2.1
noncomputable def Ist.us (S : Ist) (i : Nat) : Bool := (knotT S.F (cls S.E S.M i) S.val).2.2

theorem Ist.val_eq (S : Ist) (i : Nat) : S.val i = @ite Int32 (Trc S.E i i) (Classical.propDecidable _) ((knotT S.F (cls S.E S.M i) (fun x => if S.rk x < S.rk i then S.val x else 0)).1 i) (S.F i (fun x => if S.rk x < S.rk i then S.val x else 0)) := by
  have : (fun x => if S.rk x < S.rk i then S.valF (S.rk i) x else 0) = (fun x => if S.rk x < S.rk i then S.val x else 0) := by
    funext x
    by_cases hx : S.rk x < S.rk i
    · rw [if_pos hx, if_pos hx]; exact S.valF_eq _ _ x (by omega) (by omega)
    · rw [if_neg hx, if_neg hx]
  show S.valF (S.rk i + 1) i = _
  simp only [Ist.valF]
  rw [this]

theorem Ist.sol (S : Ist) : Sol S S.val S.tn S.us := by
  refine ⟨?_, ?_⟩
  · intro i hi hk
    rw [S.val_eq i, if_neg hk]
    refine S.hF i hi _ _ (fun x hx => ?_)
    have : S.rk x < S.rk i := S.rk_lt hi (Rch.one hx) (fun r => hk ⟨x, hx, r⟩)
    simp [this]
  · intro i hi hk
    have key := knot_tr (F := S.F) (F' := S.F) (L := cls S.E S.M i) (σ := id) (D := fun x => x ∈ cls S.E S.M i ∨ ∃ j, j ∈ cls S.E S.M i ∧ S.E j x)
      (fun j hj => .inl hj) (fun _ _ _ _ e => e) (fun j hj w w' hw => S.hF j (S.cls_V hi hj) _ _ (fun x hx => hw x (.inr ⟨j, hj, hx⟩)))
      (v := fun x => if S.rk x < S.rk i then S.val x else 0) (v' := S.val)
      (fun x hx hx' => by
        rcases hx with hx | ⟨j, hj, e⟩
        · exact absurd hx hx'
        · have hj' := mem_cls.1 hj
          have hr : Rch S.E i x := hj'.2.1.trans (Rch.one e)
          have : S.rk x < S.rk i := S.rk_lt hi hr (fun r => hx' (mem_cls.2 ⟨S.hV x (S.hE _ _ e).2, hr, r⟩))
          simp [this])
    rw [List.map_id] at key
    refine ⟨fun j hj => ?_, rfl⟩
    have hj' := mem_cls.1 hj
    have h1 := key.1 j (.inl hj)
    rw [show (knotT S.F (cls S.E S.M i) S.val).1 j = _ from h1]
    have hr : S.rk j = S.rk i := Nat.le_antisymm (S.rk_le hj'.2.1) (S.rk_le hj'.2.2)
    have hkj : Trc S.E j j := by
      obtain ⟨c, e, r⟩ := hk
      rcases Rch.iff.1 hj'.2.2 with h | t
      · rw [h]; exact ⟨c, e, r⟩
      · obtain ⟨d, e', r'⟩ := t
        exact ⟨d, e', r'.trans hj'.2.1⟩
    rw [S.val_eq j, if_pos hkj, hr, ← cls_eq hj'.2.1 hj'.2.2]

/-- what is not touched stays: an old structure S0, a new one S, each new one's old number σ. -/
theorem Ist.stays {S0 S : Ist} {σ : Nat → Nat} {i : Nat} (hi : S.V i)
    (hc : cls S0.E S0.M (σ i) = (cls S.E S.M i).map σ) (hk : Trc S.E i i ↔ Trc S0.E (σ i) (σ i)) (hV : S0.V (σ i))
    (hσ : ∀ x y, (x ∈ cls S.E S.M i ∨ ∃ j, j ∈ cls S.E S.M i ∧ S.E j x) → (y ∈ cls S.E S.M i ∨ ∃ j, j ∈ cls S.E S.M i ∧ S.E j y) → σ x = σ y → x = y)
    (hF : ∀ j, j ∈ cls S.E S.M i → ∀ w w' : Vl, (∀ x, S.E j x → w' (σ x) = w x) → S0.F (σ j) w' = S.F j w)
    (hx : ∀ j x, j ∈ cls S.E S.M i → S.E j x → x ∉ cls S.E S.M i → S0.val (σ x) = S.val x) :
    (∀ j, j ∈ cls S.E S.M i → S0.val (σ j) = S.val j) ∧ (Trc S.E i i → S0.tn (σ i) = S.tn i ∧ S0.us (σ i) = S.us i) := by
  by_cases h : Trc S.E i i
  · have a := S.sol.knot i hi h
    have b := S0.sol.knot (σ i) hV (hk.1 h)
    have key := knot_tr (F := S.F) (F' := S0.F) (L := cls S.E S.M i) (σ := σ) (D := fun x => x ∈ cls S.E S.M i ∨ ∃ j, j ∈ cls S.E S.M i ∧ S.E j x)
      (fun j hj => .inl hj) hσ (fun j hj w w' hw => hF j hj w w' (fun x hx => hw x (.inr ⟨j, hj, hx⟩))) (v := S.val) (v' := S0.val)
      (fun x hx' hx'' => by
        rcases hx' with hx' | ⟨j, hj, e⟩
        · exact absurd hx' hx''
        · exact hx j x hj e hx'')
    rw [← hc] at key
    refine ⟨fun j hj => ?_, fun _ => ?_⟩
    · have h1 := key.1 j (.inl hj)
      rw [a.1 j hj] at h1
      rw [← h1]
      exact (b.1 (σ j) (by rw [hc]; exact List.mem_map.2 ⟨j, hj, rfl⟩)).symm
    · have := key.2
      rw [a.2, b.2] at this
      exact ⟨(Prod.mk.inj this).1, (Prod.mk.inj this).2⟩
  · refine ⟨fun j hj => ?_, fun hh => absurd hh h⟩
    have hj' := mem_cls.1 hj
    have e : j = i := by
      rcases Rch.iff.1 hj'.2.1 with e | t
      · exact e.symm
      · rcases Rch.iff.1 hj'.2.2 with e | t'
        · exact e
        · exact absurd (t.trans t') h
    subst e
    rw [S0.sol.one _ hV (fun hh => h (hk.2 hh)), S.sol.one _ hi h]
    refine hF j hj _ _ (fun x hx' => hx j x hj hx' (fun hh => ?_))
    exact h ⟨x, hx', (mem_cls.1 hh).2.2⟩
end
