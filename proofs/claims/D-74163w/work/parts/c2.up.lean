/-! plain: up -/
set_option maxRecDepth 100000
section
/-! LAW 2: what holds between the calls; how long the tape is -/
/-- the law's answer -/
def LQ : Option SV → AH → Prop := fun v _ => v = some (vI 1)
/-- what does not change while the law runs -/
def LE (s0 : S0) (b N m : Nat) (xs : Nat → Int32) : Prop :=
  (∀ a, s0.2 a = false) ∧
  (s0.1.heap.size ≤ m) ∧
  (va_X b N xs s0.1 s0.1.heap)
theorem LE.no {s0 : S0} {b N m : Nat} {xs : Nat → Int32} (h9 : LE s0 b N m xs) : ∀ a, s0.2 a = false := h9.1
theorem LE.hm {s0 : S0} {b N m : Nat} {xs : Nat → Int32} (h9 : LE s0 b N m xs) : s0.1.heap.size ≤ m := h9.2.1
theorem LE.X {s0 : S0} {b N m : Nat} {xs : Nat → Int32} (h9 : LE s0 b N m xs) : va_X b N xs s0.1 s0.1.heap := h9.2.2
/-- both objects stand for the same X -/
def LI (s0 : S0) (m o jn tpa : Nat) (T : TS) (g : AH) (X : AX) : Prop :=
  (CRep g.c o jn tpa X) ∧
  (TwRep T X) ∧
  (HZ m g) ∧
  (g.bs = bsOf (sH s0 m))
theorem LI.R {s0 : S0} {m o jn tpa : Nat} {T : TS} {g : AH} {X : AX} (h9 : LI s0 m o jn tpa T g X) : CRep g.c o jn tpa X := h9.1
theorem LI.W {s0 : S0} {m o jn tpa : Nat} {T : TS} {g : AH} {X : AX} (h9 : LI s0 m o jn tpa T g X) : TwRep T X := h9.2.1
theorem LI.Z {s0 : S0} {m o jn tpa : Nat} {T : TS} {g : AH} {X : AX} (h9 : LI s0 m o jn tpa T g X) : HZ m g := h9.2.2.1
theorem LI.B {s0 : S0} {m o jn tpa : Nat} {T : TS} {g : AH} {X : AX} (h9 : LI s0 m o jn tpa T g X) : g.bs = bsOf (sH s0 m) := h9.2.2.2
theorem LI.next {s0 : S0} {m o jn tpa : Nat} {T' : TS} {g1 g2 : AH} {X' : AX} {rc rs : Nat} (e : g2 = g1.srm rc rs) (R : CRep g1.c o jn tpa X') (W : TwRep T' X') (Z : HZ m g2) (B : g2.bs = bsOf (sH s0 m)) : LI s0 m o jn tpa T' g2 X' ∧ g2.rc = rc ∧ g2.rs = rs := by
  subst e
  exact ⟨⟨R, W, Z, B⟩, rfl, rfl⟩
theorem xFeed_m (X : AX) (a b c d e : Int32) : (xFeed X a b c d e).m ≤ X.m + 20 := by
  unfold xFeed
  by_cases h : X.m + 20 ≤ 1000
  · rw [if_pos h]
    show X.m + 4 + 4 + 4 + 4 + 4 ≤ _
    omega
  · rw [if_neg h]; omega
theorem xGrammar_in {X : AX} {x : Int32} (h : inR x (X.m + 1)) : (xGrammar X x).m = 0 := by
  unfold xGrammar
  rw [cif_pos h]
  cases pAll X.tp (ni x) <;> rfl
theorem xGrammar_out {X : AX} {x : Int32} (h : ¬ inR x (X.m + 1)) : (xGrammar X x).m = X.m := by
  unfold xGrammar
  rw [cif_neg h]
  rfl
theorem xTree_in {X : AX} {x : Int32} (h : inR x (X.m + 1)) (hg : X.gr ≠ none) : (xTree X x).m = 0 := by
  unfold xTree
  rw [cif_pos h]
  cases e : X.gr with
  | none => exact absurd e hg
  | some q =>
    dsimp only
    cases pTr X.tp (ni x) q.1 0 none 0 <;> rfl
theorem xTree_out {X : AX} {x : Int32} (h : ¬ (inR x (X.m + 1) ∧ X.gr ≠ none)) : (xTree X x).m = X.m := by
  unfold xTree
  by_cases h1 : inR x (X.m + 1)
  · rw [cif_pos h1]
    cases e : X.gr with
    | none => rfl
    | some q => exact absurd ⟨h1, by rw [e]; simp⟩ h
  · rw [cif_neg h1]; rfl
theorem xPut_m (X : AX) (x y : Int32) : (xPut X x y).m = X.m := by
  unfold xPut
  by_cases h1 : inR y 10000
  · rw [cif_pos h1]
    cases e : X.tr with
    | none => rfl
    | some r =>
      dsimp only
      cases e2 : X.gr with
      | none => rfl
      | some q =>
        dsimp only
        by_cases h2 : inR x r.1.n
        · rw [cif_pos h2]; rfl
        · rw [cif_neg h2]; rfl
  · rw [cif_neg h1]; rfl
theorem xGive_m (X : AX) (x y : Int32) : (xGive X x y).m = X.m := by
  unfold xGive
  cases e : X.tr with
  | none => rfl
  | some r =>
    dsimp only
    cases e2 : X.gr with
    | none => rfl
    | some q =>
      dsimp only
      by_cases h2 : inR x (q.1.g.ins (r.1.sm q.1.g 0))
      · rw [cif_pos h2]; rfl
      · rw [cif_neg h2]; rfl
/-- when a graft reads -/
def grR (X : AX) (x y : Int32) : Prop := inR y (X.m + 1) ∧ X.tr ≠ none ∧ ∀ r, X.tr = some r → inR x r.1.n
theorem xGraft_in {X : AX} {x y : Int32} (K : X.OK) (h : grR X x y) : (xGraft X x y).m = 0 := by
  obtain ⟨h1, h2, h3⟩ := h
  unfold xGraft
  rw [cif_pos h1]
  cases e : X.tr with
  | none => exact absurd e h2
  | some r =>
    dsimp only
    obtain ⟨V, sz, gv⟩ := r
    obtain ⟨A, ind, hg, _⟩ := K.t V sz gv e
    rw [hg]
    dsimp only
    rw [cif_pos (h3 _ e)]
    cases pTr X.tp (ni y) A (V.n - sz (ni x)) (some (V.sm A.g (ni x))) (V.dp (ni x)) <;> rfl
theorem xGraft_out {X : AX} {x y : Int32} (h : ¬ grR X x y) : (xGraft X x y).m = X.m := by
  unfold xGraft
  by_cases h1 : inR y (X.m + 1)
  · rw [cif_pos h1]
    cases e : X.tr with
    | none => rfl
    | some r =>
      dsimp only
      cases e2 : X.gr with
      | none => rfl
      | some q =>
        dsimp only
        by_cases h2 : inR x r.1.n
        · exact absurd ⟨h1, by rw [e]; simp, fun r' e' => by rw [e] at e'; rw [← Option.some.inj e']; exact h2⟩ h
        · rw [cif_neg h2]; rfl
  · rw [cif_neg h1]; rfl
end
