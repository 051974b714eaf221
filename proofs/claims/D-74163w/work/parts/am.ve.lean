/-! plain: ve -/
set_option maxRecDepth 100000
section
variable {h : AH} {o jn tpa : Nat} {X : AX} {x y z : Int32} {L : GA} {A : PG} {g : Nat} {ind : Nat → Int32} {Q : Int32 → AH → Prop}

theorem px_leftOf (R : CRep h.c o jn tpa X) (hg : X.gr = some (A, ind)) {g : Nat} {L : GA} (a1 : h.c.fr 103 o = some g) (C : CgR h.c L A g ind) {k : Nat} (hk : k < A.g.nS) (hr : 1 ≤ h.rc) (hs : 4 ≤ h.rs) (hQ : ∀ h', Fr W0 h.c h'.c → Q (I (cnP (fun p => A.g.sy p 0 = k) A.g.nP)) h') : wp_X0_leftOf o (some (L.sa k)) h Q := by
  unfold wp_X0_leftOf
  have a1' : h.fr 103 o = some g := a1
  have s1 : h.fr 401 g = some L.pl := C.X.O.p1
  rw [a1', adr_some, s1, adr_some]
  refine ⟨R.B.nn, nn_of rfl C.X.O.k, nn_of rfl C.X.O.p2.k, ?_⟩
  refine each0 C.X.O.p2 hr hs (fun i s => s = I (cnP (fun p => A.g.sy p 0 = k) i)) rfl ?_ ?_
  · rintro s h' rfl F
    exact hQ h' F
  · rintro i s h' K hi rfl F hK
    have C' := C.keep F (fun _ _ hh => hh.elim)
    have P := C'.X.S.pr i hi
    have p1 : h'.fr 701 (L.pa i) = some (L.ql i) := P.sf
    refine ⟨.inr (nn_of rfl P.k), nn_of rfl P.k, ?_⟩
    rw [adr_some, p1, adr_some]
    refine ⟨nn_of rfl P.sl.k, px_sym (h := h'.srm 0 0) P (Nat.zero_le _) (pu ?_)⟩
    intro m hm
    have hs0 := C.W.sy i 0 hi (Nat.zero_le _)
    by_cases he : A.g.sy i 0 = k
    · rw [if_pos (by rw [he])] at hm
      rw [hm]
      refine px_one1 (h := h'.srm 0 0) (.inr rfl) (pu (hK _ ?_))
      rw [cnP_pos (P := fun p => A.g.sy p 0 = k) he]; exact I_add _ 1
    · rw [if_neg (fun hh => he (C.D.sa _ _ hs0 hk (Option.some.inj hh)))] at hm
      rw [hm]
      refine px_one1 (h := h'.srm 0 0) (.inl rfl) (pu (hK _ ?_))
      rw [cnP_neg (P := fun p => A.g.sy p 0 = k) he]; exact I_add _ 0
theorem q_symbol (R : CRep h.c o jn tpa X) (hc : 40 ≤ h.rc) (hs : 2000 ≤ h.rs) (hQ : ∀ h', CRep h'.c o jn tpa (X.ws (qSymbol X x y).2) → Q (qSymbol X x y).1 h') : wp_X0_symbol o x y h Q := by
  unfold wp_X0_symbol
  refine px_isInR (h := h.srm 0 0) (m := 4) (by decide) (by decide) (pu ?_)
  unfold qSymbol at hQ
  by_cases hr : inR y 4
  rotate_left
  · rw [iP_neg hr]
    rw [cif_neg hr] at hQ
    refine ⟨fun v U => v = 1 ∧ U = h, brT rfl ⟨rfl, rfl⟩, ?_⟩
    rintro v U ⟨rfl, rfl⟩
    exact ⟨R.B.nn, qc0 R (fun h' R' _ _ => brT (by decide) (hQ h' R'))⟩
  rw [iP_pos hr]
  rw [cif_pos hr] at hQ
  refine ⟨fun v U => v = (if iP (okS X x) = 0 then 4 else 0) ∧ U = h, brF (by decide) ⟨R.B.nn, px_isSymbolR (h := h.srm 0 0) R (pu (fun m hm => ⟨hm, rfl⟩))⟩, ?_⟩
  rintro v U ⟨rfl, rfl⟩
  refine ⟨R.B.nn, qc0 R (fun h' R' c' s' => ?_)⟩
  by_cases hs : okS X x
  rotate_left
  · rw [iP_neg hs] at R' ⊢
    rw [cif_neg hs] at hQ
    exact brT (by decide) (hQ h' R')
  rw [iP_pos hs] at R' ⊢
  rw [cif_pos hs] at hQ
  rw [if_neg (by decide)] at R'
  refine brF (by decide) ?_
  obtain ⟨A, ind, hg, hxs⟩ := hs
  obtain ⟨g, L, a1, C⟩ := R'.cg hg
  have a1' : h'.fr 103 o = some g := a1
  have s1 : h'.fr 400 g = some L.sl := C.X.O.s1
  rw [hg] at hQ
  dsimp only at hQ
  have hS := C.W.nS
  obtain ⟨k, hk, e⟩ := hxs
  subst e
  rw [I_ni (by omega)] at hQ
  have SY := C.X.S.sy k hk
  have hi4 := C.W.ins k hk
  have hc8 := C.W.cnt8 hk
  rw [a1', adr_some, s1, adr_some]
  refine ⟨R'.B.nn, nn_of rfl C.X.O.k, nn_of rfl C.X.O.s2.k, pc_get (h := h'.srm 0 0) C.X.O.s2 hk (pu ⟨.inr (nn_of rfl SY.k), ?_⟩)⟩
  have f2 : h'.fi 602 (L.sa k) = I (A.g.ins k) := SY.ins
  have f5 : h'.fi 605 (L.sa k) = if A.g.self ind k then 0 else I (A.g.vs ind k) := (C.F.vis k hk).n
  rw [adr_some, f2, f5]
  obtain ⟨j, hj, e⟩ := hr
  subst e
  rcases (show j = 0 ∨ j = 1 ∨ j = 2 ∨ j = 3 by omega) with e | e | e | e
  · subst e
    rw [if_pos (show I 0 = 0 from rfl)] at hQ
    exact brF (by decide) (brT rfl ⟨nn_of rfl SY.k, hQ h' R'⟩)
  · subst e
    rw [if_neg (show ¬ I 1 = 0 by decide), if_pos (show I 1 = 1 from rfl)] at hQ
    refine brF (by decide) (brF (by decide) ⟨nn_of rfl SY.k, px_count (h := h'.srm 0 0) SY (pu ⟨nn_of rfl SY.k, ?_⟩)⟩)
    rw [f2, I_sub (C.W.ic k hk)]
    exact hQ h' R'
  · subst e
    rw [if_neg (show ¬ I 2 = 0 by decide), if_neg (show ¬ I 2 = 1 by decide), if_pos (show I 2 = 2 from rfl)] at hQ
    refine brT (by decide) (brT rfl ⟨R'.B.nn, 1, 4, ⟨by omega, by omega⟩, px_leftOf (h := h'.srm 1 4) R' hg a1 C hk (Nat.le_refl _) (Nat.le_refl _) ?_⟩)
    intro h2 F2 h3 e3
    exact hQ h3 (by rw [e3]; exact R'.w0 (h' := h2) F2)
  · subst e
    rw [if_neg (show ¬ I 3 = 0 by decide), if_neg (show ¬ I 3 = 1 by decide), if_neg (show ¬ I 3 = 2 by decide)] at hQ
    refine brT (by decide) (brF (by decide) ⟨nn_of rfl SY.k, ?_⟩)
    by_cases hse : A.g.self ind k = true
    · simp only [if_pos hse] at hQ ⊢
      exact brT trivial ⟨R'.B.nn, qn0 R' (fun h2 R2 => hQ h2 R2)⟩
    · simp only [if_neg hse] at hQ ⊢
      have hb := C.I.vb C.W hk (by simpa using hse)
      have v1 := hb.vs1
      have v9 := hb.vs9
      exact brF (fun hh => by have := (I0 (by omega)).1 hh; omega) (hQ h' R')
end
