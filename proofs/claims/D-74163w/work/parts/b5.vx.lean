/-! plain: vx -/
set_option maxRecDepth 100000
section
variable {h : AH} {o jn tpa : Nat} {X : AX} {x y z u : Int32} {L : GA} {A : PG} {g : Nat} {ind : Nat → Int32} {Q : Int32 → AH → Prop}

theorem px_isMore {q sm : Nat} (W : A.g.WF) (S : ShR h.c q sm A.g) (hQ : Q (if (A.g.shK (A.g.shE true)).mu then 1 else 0) h) : wp_X14_isMore q h Q := by
  obtain ⟨one, hle, h1, h97, hcr, hmu⟩ := Gv.shE_two W
  have r6 : h.fi 1406 q = if (A.g.shK (A.g.shE false)).mu then I (A.g.shE false) else -1 := S.r6
  have r5 : h.fi 1405 q = if (A.g.shK (A.g.shE false)).cr = 0 then -1 else I (A.g.shK (A.g.shE false)).cr := S.r5
  unfold wp_X14_isMore
  rw [r5, r6]
  refine ⟨nn_of rfl S.k, ?_⟩
  cases hm : (A.g.shK (A.g.shE false)).mu with
  | false =>
    rw [if_neg (fun hh => by have := (hmu.1 hh).2; rw [hm] at this; exact absurd this (by decide))] at hQ
    rw [if_neg (show ¬ (false = true) by decide)]
    exact brT (by decide) hQ
  | true =>
    rw [if_pos rfl]
    refine brF (fun hh => by have := (I_le (a := A.g.shE false) (b := 0) (by omega) (by decide)).1 hh; omega) ?_
    rcases one with ⟨a, b⟩ | ⟨a, b⟩
    · rw [if_pos a]
      rw [if_pos (hmu.2 ⟨b, hm⟩)] at hQ
      exact brT (by decide) hQ
    · rw [if_neg a]
      refine brF (I_nonneg (by omega)) ?_
      intro m hm'
      by_cases e : (A.g.shK (A.g.shE false)).cr < A.g.shE false
      · rw [if_pos ((I_lt (by omega) (by omega)).2 e)] at hm'
        rw [if_neg (fun hh => by have := (hmu.1 hh).1; omega)] at hQ
        rw [hm']; exact ⟨.inl rfl, hQ⟩
      · rw [if_neg (fun hh => e ((I_lt (by omega) (by omega)).1 hh))] at hm'
        rw [if_pos (hmu.2 ⟨by omega, hm⟩)] at hQ
        rw [hm']; exact ⟨.inr rfl, hQ⟩
theorem q_real (SN : ShNow) (R : CRep h.c o jn tpa X) (hc : 1300 ≤ h.rc) (hs : 40000 ≤ h.rs) (hQ : ∀ h', CRep h'.c o jn tpa (X.ws (qReal X x).2) → Q (qReal X x).1 h') : wp_X0_real o x h Q := by
  unfold wp_X0_real
  unfold qReal at hQ
  refine px_isInR (h := h.srm 0 0) (m := 4) (by decide) (by decide) (pu ?_)
  by_cases hr : inR x 4
  rotate_left
  · rw [iP_neg hr]
    rw [cif_neg hr] at hQ
    refine ⟨fun v U => v = 1 ∧ U = h, brT rfl ⟨rfl, rfl⟩, ?_⟩
    rintro v U ⟨rfl, rfl⟩
    exact ⟨R.B.nn, qc0 R (fun h' R' _ _ => brT (by decide) (hQ h' R'))⟩
  rw [iP_pos hr]
  rw [cif_pos hr] at hQ
  cases hg : X.gr with
  | none =>
    rw [hg] at hQ
    refine ⟨fun v U => v = 2 ∧ U = h, brF (by decide) ⟨R.B.nn, brT (R.g0 hg).1 ⟨rfl, rfl⟩⟩, ?_⟩
    rintro v U ⟨rfl, rfl⟩
    exact ⟨R.B.nn, qc0 R (fun h' R' _ _ => brT (by decide) (hQ h' R'))⟩
  | some qq =>
  obtain ⟨A, ind⟩ := qq
  rw [hg] at hQ
  dsimp only at hQ
  obtain ⟨g0, L0, a0, C0⟩ := R.cg hg
  have a0' : h.fr 103 o = some g0 := a0
  obtain ⟨one, hle, h1, h97, hcr, hmu⟩ := Gv.shE_two C0.W
  obtain ⟨M, hM⟩ : ∃ M, M = 1300 := ⟨_, rfl⟩
  obtain ⟨S, hSS⟩ : ∃ S, S = 40000 := ⟨_, rfl⟩
  refine ⟨fun v U => ∃ q sm, v = (if (A.g.shK (A.g.shE true)).mu then 6 else 0) ∧ CRep U.c o jn tpa X ∧ U.fr 104 o = some q ∧ ShR U.c q sm A.g, brF (by decide) ⟨R.B.nn, brF (by rw [a0']; simp) ⟨M, S, ⟨by omega, by omega⟩, SN (h.srm M S) o jn tpa X A ind _ R hg (by show 1300 ≤ M; omega) (by show 40000 ≤ S; omega) ?_⟩⟩, ?_⟩
  · intro h2 q sm R2 f4 S2 h3 e3
    have S3 : ShR h3.c q sm A.g := by rw [e3]; exact S2
    refine ⟨nn_of rfl S3.k, ?_⟩
    rw [adr_some]
    refine px_isMore (h := h3.srm 0 0) C0.W S3 (pu ?_)
    intro m hm
    refine ⟨q, sm, ?_, by rw [e3]; exact R2, by rw [e3]; exact f4, S3⟩
    rw [hm]
    cases (A.g.shK (A.g.shE true)).mu <;> rfl
  · rintro v U ⟨q, sm, rfl, RU, f4, SU⟩
    refine ⟨RU.B.nn, qcF RU (fun h' R' F => ?_)⟩
    have S' := SU.st F
    have g4 : h'.fr 104 o = some q := (F.fr 104 o RU.B.l (fun hh => by have := hh.1; omega)).trans f4
    cases hm : (A.g.shK (A.g.shE true)).mu with
    | true =>
      rw [hm] at R' hQ
      rw [if_pos rfl] at R' hQ ⊢
      exact brT (by decide) (hQ h' R')
    | false =>
      rw [hm] at R' hQ
      rw [if_neg (show ¬ (false = true) by decide)] at R' hQ ⊢
      refine brF (by decide) ⟨R'.B.nn, ?_⟩
      have r4 : h'.fi 1404 q = I (A.g.shE false) := S'.r4
      have r5 : h'.fi 1405 q = if (A.g.shK (A.g.shE false)).cr = 0 then -1 else I (A.g.shK (A.g.shE false)).cr := S'.r5
      have r7 : h'.fi 1407 q = I (sN (A.g.shK (A.g.shE true)).mn 8) := S'.r7
      rw [g4, adr_some, r4, r5, r7]
      rw [hcr] at hQ
      refine ⟨nn_of rfl S'.k, ?_⟩
      intro m hmm
      rcases one with ⟨a, b⟩ | ⟨a, b⟩
      · simp only [if_pos a] at hQ hmm ⊢
        rw [if_pos (by decide)] at hmm
        subst hmm
        by_cases x0 : x = 0
        · rw [if_pos x0] at hQ
          exact brT x0 (px_one1 (h := h'.srm 0 0) (.inl rfl) (pu (hQ h' R')))
        rw [if_neg x0] at hQ
        refine brF x0 ?_
        by_cases x1 : x = 1
        · rw [if_pos x1] at hQ
          exact brT x1 (brT rfl (qn0 R' (fun h2 R2 => hQ h2 R2)))
        rw [if_neg x1] at hQ
        refine brF x1 ?_
        by_cases x2 : x = 2
        · rw [if_pos x2, b] at hQ
          exact brT x2 (brT rfl (hQ h' R'))
        · rw [if_neg x2] at hQ
          exact brF x2 (hQ h' R')
      · simp only [if_neg a] at hQ hmm ⊢
        rw [if_neg (fun hh => by have := (I_le (a := (A.g.shK (A.g.shE false)).cr) (b := 0) (by omega) (by decide)).1 hh; omega)] at hmm
        subst hmm
        by_cases x0 : x = 0
        · rw [if_pos x0] at hQ
          exact brT x0 (px_one1 (h := h'.srm 0 0) (.inr rfl) (pu (hQ h' R')))
        rw [if_neg x0] at hQ
        refine brF x0 ?_
        by_cases x1 : x = 1
        · rw [if_pos x1] at hQ
          exact brT x1 (brF (by decide) (hQ h' R'))
        rw [if_neg x1] at hQ
        refine brF x1 ?_
        by_cases x2 : x = 2
        · rw [if_pos x2, b] at hQ
          exact brT x2 (brF (by decide) (hQ h' R'))
        · rw [if_neg x2] at hQ
          exact brF x2 (hQ h' R')
end
