/-! plain: ax1 -/
set_option maxRecDepth 100000
section
/-- a structure of instances, if all is well. -/
def Ist.nil : Ist := ⟨(0, fun _ => False, fun _ _ => False, fun _ _ => 0), fun _ h => h.elim, fun _ _ h => h.elim, fun _ h => h.elim⟩
noncomputable def istO (G : Gv) (V : Tv) (gv : Nat → Int32) : Ist := @dite _ (G.WF ∧ V.WF G ∧ G.RL) (Classical.propDecidable _) (fun h => V.ist G gv h.1 h.2.1 h.2.2) (fun _ => Ist.nil)
theorem istO_I {G : Gv} {V : Tv} (gv : Nat → Int32) (W : G.WF) (X : V.WF G) (R : G.RL) : IsI (istO G V gv) G V gv := by
  have e : istO G V gv = V.ist G gv W X R := dif_pos ⟨W, X, R⟩
  rw [e]
  exact IsI.ist W X R

/-- what is known: the tape, the status, faults; a grammar; a tree; what came by the latest change. -/
def AX : Type := Nat × (Nat → Nat) × Int32 × Int32 × Int32 × Option (PG × (Nat → Int32)) × Option (Tv × (Nat → Nat) × (Nat → Int32)) × Option (Nat × Nat)
def AX.m (X : AX) : Nat := X.1
def AX.tp (X : AX) : Nat → Nat := X.2.1
def AX.st (X : AX) : Int32 := X.2.2.1
def AX.fk (X : AX) : Int32 := X.2.2.2.1
def AX.fp (X : AX) : Int32 := X.2.2.2.2.1
def AX.gr (X : AX) : Option (PG × (Nat → Int32)) := X.2.2.2.2.2.1
def AX.tr (X : AX) : Option (Tv × (Nat → Nat) × (Nat → Int32)) := X.2.2.2.2.2.2.1
def AX.an (X : AX) : Option (Nat × Nat) := X.2.2.2.2.2.2.2
def AX.mk (m : Nat) (tp : Nat → Nat) (st fk fp : Int32) (gr : Option (PG × (Nat → Int32))) (tr : Option (Tv × (Nat → Nat) × (Nat → Int32))) (an : Option (Nat × Nat)) : AX := (m, tp, st, fk, fp, gr, tr, an)
def AX.ws (X : AX) (s : Int32) : AX := AX.mk X.m X.tp s X.fk X.fp X.gr X.tr X.an
def AX.nil : AX := AX.mk 0 (fun _ => 0) 0 (-1) (-1) none none none

def AX.OK (X : AX) : Prop :=
  (X.m ≤ 1000) ∧
  (∀ k, X.tp k < 256) ∧
  (∀ A ind, X.gr = some (A, ind) → A.g.WF ∧ A.g.RL ∧ A.g.IsInd ind ∧ ∀ i, 64 ≤ i → ind i = 0) ∧
  (∀ V sz gv, X.tr = some (V, sz, gv) → ∃ A ind, X.gr = some (A, ind) ∧ trK A V sz ∧ V.dp 0 = 0)
theorem AX.OK.m {X : AX} (h9 : AX.OK X) : X.m ≤ 1000 := h9.1
theorem AX.OK.b {X : AX} (h9 : AX.OK X) : ∀ k, X.tp k < 256 := h9.2.1
theorem AX.OK.g {X : AX} (h9 : AX.OK X) : ∀ A ind, X.gr = some (A, ind) → A.g.WF ∧ A.g.RL ∧ A.g.IsInd ind ∧ ∀ i, 64 ≤ i → ind i = 0 := h9.2.2.1
theorem AX.OK.t {X : AX} (h9 : AX.OK X) : ∀ V sz gv, X.tr = some (V, sz, gv) → ∃ A ind, X.gr = some (A, ind) ∧ trK A V sz ∧ V.dp 0 = 0 := h9.2.2.2
theorem AX.OK.ws {X : AX} (K : X.OK) (s : Int32) : (X.ws s).OK := ⟨K.m, K.b, K.g, K.t⟩

/-- the twin's state. -/
def TwRep (T : TS) (X : AX) : Prop :=
  (X.OK) ∧
  (T.s 205 = I X.m) ∧
  (∀ k, k < X.m → T.a 0 k = I (X.tp k)) ∧
  (T.s 206 = X.st) ∧
  (T.s 207 = X.fk) ∧
  (T.s 208 = X.fp) ∧
  (∀ i, 64 ≤ i → T.a 5 i = 0) ∧
  (X.gr = none → T.s 209 = 0) ∧
  (∀ A ind, X.gr = some (A, ind) → T.s 209 = 1 ∧ (∃ c, TwG T 1 3 A c) ∧ T.a 5 = ind) ∧
  (X.tr = none → T.s 250 = 0) ∧
  (∀ V sz gv A ind, X.tr = some (V, sz, gv) → X.gr = some (A, ind) → TwX T A.g V gv (istO A.g V gv) ∧ ∃ O, TwE T (istO A.g V gv) O) ∧
  (X.tr ≠ none → X.an = none → T.s 253 = 0) ∧
  (X.tr ≠ none → ∀ a b, X.an = some (a, b) → T.s 253 = 1 ∧ T.s 254 = I a ∧ T.s 255 = I b)
theorem TwRep.ok {T : TS} {X : AX} (h9 : TwRep T X) : X.OK := h9.1
theorem TwRep.n {T : TS} {X : AX} (h9 : TwRep T X) : T.s 205 = I X.m := h9.2.1
theorem TwRep.tt {T : TS} {X : AX} (h9 : TwRep T X) : ∀ k, k < X.m → T.a 0 k = I (X.tp k) := h9.2.2.1
theorem TwRep.st {T : TS} {X : AX} (h9 : TwRep T X) : T.s 206 = X.st := h9.2.2.2.1
theorem TwRep.fk {T : TS} {X : AX} (h9 : TwRep T X) : T.s 207 = X.fk := h9.2.2.2.2.1
theorem TwRep.fp {T : TS} {X : AX} (h9 : TwRep T X) : T.s 208 = X.fp := h9.2.2.2.2.2.1
theorem TwRep.z5 {T : TS} {X : AX} (h9 : TwRep T X) : ∀ i, 64 ≤ i → T.a 5 i = 0 := h9.2.2.2.2.2.2.1
theorem TwRep.g0 {T : TS} {X : AX} (h9 : TwRep T X) : X.gr = none → T.s 209 = 0 := h9.2.2.2.2.2.2.2.1
theorem TwRep.g1 {T : TS} {X : AX} (h9 : TwRep T X) : ∀ A ind, X.gr = some (A, ind) → T.s 209 = 1 ∧ (∃ c, TwG T 1 3 A c) ∧ T.a 5 = ind := h9.2.2.2.2.2.2.2.2.1
theorem TwRep.t0 {T : TS} {X : AX} (h9 : TwRep T X) : X.tr = none → T.s 250 = 0 := h9.2.2.2.2.2.2.2.2.2.1
theorem TwRep.t1 {T : TS} {X : AX} (h9 : TwRep T X) : ∀ V sz gv A ind, X.tr = some (V, sz, gv) → X.gr = some (A, ind) → TwX T A.g V gv (istO A.g V gv) ∧ ∃ O, TwE T (istO A.g V gv) O := h9.2.2.2.2.2.2.2.2.2.2.1
theorem TwRep.a0 {T : TS} {X : AX} (h9 : TwRep T X) : X.tr ≠ none → X.an = none → T.s 253 = 0 := h9.2.2.2.2.2.2.2.2.2.2.2.1
theorem TwRep.a1 {T : TS} {X : AX} (h9 : TwRep T X) : X.tr ≠ none → ∀ a b, X.an = some (a, b) → T.s 253 = 1 ∧ T.s 254 = I a ∧ T.s 255 = I b := h9.2.2.2.2.2.2.2.2.2.2.2.2

theorem TwG.keepQ {T U : TS} {A : PG} {c : Nat} {L S : List Nat} (Y : TwG T 1 3 A c) (F : Tch L S T U) (h1 : 1 ∉ L) : TwG U 1 3 A c :=
  ⟨by rw [F.a 1 h1]; exact Y.g, by rw [F.a 1 h1]; exact Y.k, by rw [F.a 1 h1]; exact Y.z, by rw [F.a 1 h1]; exact Y.m, fun s hs => by unfold TwN; rw [F.l]; exact Y.sn s hs, fun s hs => by unfold TwN; rw [F.l]; exact Y.pn s hs, fun s a hs ha => by unfold TwN; rw [F.l]; exact Y.an s a hs ha, Y.w, Y.rl, by rw [F.a 1 h1]; exact Y.cb⟩
theorem TwE.keepQ {T U : TS} {S : Ist} {O : List Nat} {L M : List Nat} (Y : TwE T S O) (F : Tch L M T U) (hA : ∀ j, j ∈ [28, 30, 31, 37] → j ∉ L) (h : 272 ∉ M) : TwE U S O :=
  ⟨by rw [F.a 28 (hA _ (by decide))]; exact Y.v, by rw [F.a 30 (hA _ (by decide)), F.a 37 (hA _ (by decide))]; exact Y.t, (F.s _ h).trans Y.n, by rw [F.a 31 (hA _ (by decide))]; exact Y.o, Y.k, Y.c, Y.all⟩
theorem TwRep.keep {T U : TS} {X : AX} {L M : List Nat} (R : TwRep T X) (F : Tch L M T U) (hA : ∀ j, j ∈ [0, 1, 5, 19, 20, 21, 25, 26, 27, 28, 29, 30, 31, 34, 35, 36, 37] → j ∉ L) (hM : ∀ j, j ∈ [205, 206, 207, 208, 209, 250, 253, 254, 255, 272] → j ∉ M) : TwRep U X := by
  have s := fun j (hj : j ∈ [205, 206, 207, 208, 209, 250, 253, 254, 255, 272]) => F.s j (hM j hj)
  have a := fun j (hj : j ∈ [0, 1, 5, 19, 20, 21, 25, 26, 27, 28, 29, 30, 31, 34, 35, 36, 37]) => F.a j (hA j hj)
  refine ⟨R.ok, (s _ (by decide)).trans R.n, by rw [a 0 (by decide)]; exact R.tt, (s _ (by decide)).trans R.st, (s _ (by decide)).trans R.fk, (s _ (by decide)).trans R.fp, by rw [a 5 (by decide)]; exact R.z5, fun h => (s _ (by decide)).trans (R.g0 h), fun A ind h => ?_, fun h => (s _ (by decide)).trans (R.t0 h), fun V sz gv A ind h1 h2 => ?_, fun h1 h2 => (s _ (by decide)).trans (R.a0 h1 h2), fun h1 x y h2 => ?_⟩
  · obtain ⟨q1, ⟨c, q2⟩, q3⟩ := R.g1 A ind h
    exact ⟨(s _ (by decide)).trans q1, ⟨c, q2.keepQ F (hA _ (by decide))⟩, by rw [a 5 (by decide)]; exact q3⟩
  · obtain ⟨q1, O, q2⟩ := R.t1 V sz gv A ind h1 h2
    exact ⟨q1.keep F (fun j hj => hA j (by revert j; decide)) (hM _ (by decide)), O, q2.keepQ F (fun j hj => hA j (by revert j; decide)) (hM _ (by decide))⟩
  · obtain ⟨q1, q2, q3⟩ := R.a1 h1 x y h2
    exact ⟨(s _ (by decide)).trans q1, (s _ (by decide)).trans q2, (s _ (by decide)).trans q3⟩
theorem TwRep.ws {T : TS} {X : AX} (R : TwRep T X) (v : Int32) : TwRep (T.ss 206 v) (X.ws v) := by
  have F : Tch [] [206] T (T.ss 206 v) := (Tch.refl T).ss (by decide) _
  refine ⟨R.ok.ws v, (F.s _ (by decide)).trans R.n, by rw [F.a 0 (by decide)]; exact R.tt, by rw [ss_s, if_pos rfl]; rfl, (F.s _ (by decide)).trans R.fk, (F.s _ (by decide)).trans R.fp, by rw [F.a 5 (by decide)]; exact R.z5, fun h => (F.s _ (by decide)).trans (R.g0 h), fun A ind h => ?_, fun h => (F.s _ (by decide)).trans (R.t0 h), fun V sz gv A ind h1 h2 => ?_, fun h1 h2 => (F.s _ (by decide)).trans (R.a0 h1 h2), fun h1 x y h2 => ?_⟩
  · obtain ⟨q1, ⟨c, q2⟩, q3⟩ := R.g1 A ind h
    exact ⟨(F.s _ (by decide)).trans q1, ⟨c, q2.keepQ F (by decide)⟩, by rw [F.a 5 (by decide)]; exact q3⟩
  · obtain ⟨q1, O, q2⟩ := R.t1 V sz gv A ind h1 h2
    exact ⟨q1.keep F (by decide) (by decide), O, q2.keepQ F (by decide) (by decide)⟩
  · obtain ⟨q1, q2, q3⟩ := R.a1 h1 x y h2
    exact ⟨(F.s _ (by decide)).trans q1, (F.s _ (by decide)).trans q2, (F.s _ (by decide)).trans q3⟩

variable {T : TS} {X : AX}
/-- an answer, and the status. -/
theorem pt_gives (R : TwRep T X) {v : Int32} {Q : Int32 → TS → Prop} (h : ∀ U, TwRep U (X.ws 0) → Q v U) : wp_X1_gives v T Q := by
  intro U hU
  rw [hU]
  exact h _ (R.ws 0)
theorem pt_refuse (R : TwRep T X) {v : Int32} {Q : Int32 → TS → Prop} (h : ∀ U, TwRep U (X.ws v) → Q (-1) U) : wp_X1_refuse v T Q := by
  intro U hU
  rw [hU]
  exact h _ (R.ws v)
theorem pt_status (R : TwRep T X) {Q : Int32 → TS → Prop} (h : ∀ U, TwRep U X → Q X.st U) : wp_X1_status T Q := by
  unfold wp_X1_status
  rw [R.st]
  exact h T R
theorem pt_fault (R : TwRep T X) {x : Int32} {Q : Int32 → TS → Prop} (h : ∀ U, TwRep U X → Q (if x = 0 then X.fk else if x = 1 then X.fp else -1) U) : wp_X1_fault x T Q := by
  intro m hm
  rw [hm, R.fk, R.fp]
  exact h T R
end
