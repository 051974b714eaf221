/-! plain: vw -/
set_option maxRecDepth 100000
section
variable {h : AH} {o jn tpa : Nat} {X : AX} {x y z u : Int32} {L : GA} {A : PG} {g : Nat} {ind : Nat → Int32} {Q : Int32 → AH → Prop}

theorem qcF (R : CRep h.c o jn tpa X) {s : Int32} {P : Int32 → AH → Prop} (hP : ∀ h', CRep h'.c o jn tpa (X.ws s) → Fr (WSt o) h.c h'.c → P (if s = 0 then 1 else 0) h') : wp_X0_can o s (h.srm 0 0) fun r h8 => ∀ h9, h9 = h8.srm h.rc h.rs → P r h9 :=
  q_can (h := h.srm 0 0) R (fun h' R' F c s h9 e9 => by rw [e9]; exact hP _ R' F)
/-- shades are there when they are asked for: what is to be shown of X14. -/
def ShNow : Prop := ∀ (h : AH) (o jn tpa : Nat) (X : AX) (A : PG) (ind : Nat → Int32) (P : Option Nat → AH → Prop), CRep h.c o jn tpa X → X.gr = some (A, ind) → 1300 ≤ h.rc → 40000 ≤ h.rs → (∀ h' q sm, CRep h'.c o jn tpa X → h'.fr 104 o = some q → ShR h'.c q sm A.g → P (some q) h') → wp_X0_shadesNow o h P
theorem ShR.st {c c' : HC} {q sm : Nat} {G : Gv} (S : ShR c q sm G) (F : Fr (WSt o) c c') : ShR c' q sm G := S.keep F (fun f h1 h2 hh => by have := hh.1; omega) (fun hh => by have := hh.1; omega)
theorem q_shades (SN : ShNow) (R : CRep h.c o jn tpa X) (hc : 1300 ≤ h.rc) (hs : 40000 ≤ h.rs) (hQ : ∀ h', CRep h'.c o jn tpa (X.ws (qShades X x).2) → Q (qShades X x).1 h') : wp_X0_shades o x h Q := by
  unfold wp_X0_shades
  unfold qShades at hQ
  refine ⟨R.B.nn, px_isSymbolR (h := h.srm 0 0) R (pu ?_)⟩
  by_cases hS : okS X x
  rotate_left
  · rw [iP_neg hS]
    rw [cif_neg hS] at hQ
    refine ⟨fun v U => v = 4 ∧ U = h, brT rfl ⟨rfl, rfl⟩, ?_⟩
    rintro v U ⟨rfl, rfl⟩
    exact ⟨R.B.nn, qc0 R (fun h' R' _ _ => brT (by decide) (hQ h' R'))⟩
  rw [iP_pos hS]
  rw [cif_pos hS] at hQ
  obtain ⟨A, ind, hg, hx⟩ := hS
  rw [hg] at hQ
  dsimp only at hQ
  obtain ⟨g0, L0, _, C0⟩ := R.cg hg
  have hnS := C0.W.nS
  obtain ⟨_, _, e1, e97, _, _⟩ := Gv.shE_two C0.W
  have e0 : 1 ≤ A.g.shE false := by
    have := (Gv.shE_two C0.W).2.1
    omega
  have hif : ∀ b : Bool, (if (if b then I (A.g.shE false) else -1) ≤ 0 then (0 : Int32) else 6) = (if b then 6 else 0) := by
    intro b
    cases b with
    | true =>
      rw [if_pos rfl, if_pos rfl]
      exact if_neg (fun hh => by have := (I_le (a := A.g.shE false) (b := 0) (by omega) (by decide)).1 hh; omega)
    | false => rfl
  obtain ⟨M, hM⟩ : ∃ M, M = 1300 := ⟨_, rfl⟩
  obtain ⟨S, hSS⟩ : ∃ S, S = 40000 := ⟨_, rfl⟩
  refine ⟨fun v U => ∃ q sm, v = (if (A.g.shK (A.g.shE false)).mu then 6 else 0) ∧ CRep U.c o jn tpa X ∧ U.fr 104 o = some q ∧ ShR U.c q sm A.g, brF (by decide) ⟨R.B.nn, M, S, ⟨by omega, by omega⟩, SN (h.srm M S) o jn tpa X A ind _ R hg (by show 1300 ≤ M; omega) (by show 40000 ≤ S; omega) ?_⟩, ?_⟩
  · intro h2 q sm R2 f4 S2 h3 e3
    have S3 : ShR h3.c q sm A.g := by rw [e3]; exact S2
    have r6 : h3.fi 1406 q = if (A.g.shK (A.g.shE false)).mu then I (A.g.shE false) else -1 := S3.r6
    refine ⟨nn_of rfl S3.k, ?_⟩
    rw [adr_some, r6]
    intro m hm
    rw [hif] at hm
    exact ⟨q, sm, hm, by rw [e3]; exact R2, by rw [e3]; exact f4, S3⟩
  · rintro v U ⟨q, sm, rfl, RU, f4, SU⟩
    refine ⟨RU.B.nn, qcF RU (fun h' R' F => ?_)⟩
    have S' := SU.st F
    have g4 : h'.fr 104 o = some q := (F.fr 104 o RU.B.l (fun hh => by have := hh.1; omega)).trans f4
    cases hm : (A.g.shK (A.g.shE false)).mu with
    | true =>
      rw [hm] at R' hQ
      rw [if_pos rfl] at R' ⊢
      exact brT (by decide) (hQ h' R')
    | false =>
      rw [hm] at R' hQ
      rw [if_neg (show ¬ (false = true) by decide)] at R' ⊢
      refine brF (by decide) ⟨R'.B.nn, ?_⟩
      obtain ⟨k, hk, e⟩ := hx
      subst e
      have f2 : h'.fr 1402 q = some sm := S'.f
      have am : h'.ai sm k = I ((A.g.shK (A.g.shE false)).mn k) := S'.mn k (by omega)
      rw [g4, adr_some, f2, adr_some, I_ni (by omega), am]
      refine ⟨nn_of rfl S'.k, ix_of rfl S'.mk (by omega) (by decide), ?_⟩
      rw [I_ni (by omega)] at hQ
      exact hQ h' R'
end
