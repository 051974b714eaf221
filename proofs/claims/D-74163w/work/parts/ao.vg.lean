/-! plain: vg -/
set_option maxRecDepth 100000
section
variable {h : AH} {o jn tpa : Nat} {X : AX} {x y z : Int32} {L : GA} {A : PG} {g : Nat} {ind : Nat → Int32} {Q : Int32 → AH → Prop}

theorem q_induced (R : CRep h.c o jn tpa X) (hQ : ∀ h', CRep h'.c o jn tpa (X.ws (qInduced X x y z).2) → Q (qInduced X x y z).1 h') : wp_X0_induced o x y z h Q := by
  unfold wp_X0_induced
  unfold qInduced at hQ
  refine ⟨R.B.nn, px_isAttributeR (h := h.srm 0 0) R (pu ?_)⟩
  by_cases h1 : okA X x y
  rotate_left
  · rw [iP_neg h1]
    rw [cif_neg (fun hh => h1 hh.1)] at hQ
    refine ⟨fun v U => v = 4 ∧ U = h, brT rfl ⟨rfl, rfl⟩, ?_⟩
    rintro v U ⟨rfl, rfl⟩
    exact ⟨R.B.nn, qc0 R (fun h' R' _ _ => brT (by decide) (hQ h' R'))⟩
  rw [iP_pos h1]
  refine ⟨fun v U => v = (if iP (okA X x z) = 0 then 4 else 0) ∧ U = h, brF (by decide) ⟨R.B.nn, px_isAttributeR (h := h.srm 0 0) R (pu (fun m hm => ⟨hm, rfl⟩))⟩, ?_⟩
  rintro v U ⟨rfl, rfl⟩
  refine ⟨R.B.nn, qc0 R (fun h' R' c' s' => ?_)⟩
  by_cases h2 : okA X x z
  rotate_left
  · rw [iP_neg h2] at R' ⊢
    rw [cif_neg (fun hh => h2 hh.2)] at hQ
    exact brT (by decide) (hQ h' R')
  rw [iP_pos h2] at R' ⊢
  rw [cif_pos ⟨h1, h2⟩] at hQ
  rw [if_neg (by decide)] at R'
  refine brF (by decide) ?_
  obtain ⟨A, ind, hg, hx, hy⟩ := h1
  have hz := ((okA_iff hg).1 h2).2
  obtain ⟨g, L, a1, C⟩ := R'.cg hg
  have a1' : h'.fr 103 o = some g := a1
  have s1 : h'.fr 400 g = some L.sl := C.X.O.s1
  rw [hg] at hQ
  dsimp only at hQ
  have hS := C.W.nS
  obtain ⟨k, hk, e⟩ := hx
  subst e
  rw [I_ni (by omega)] at hQ hy hz
  have hc8 := C.W.cnt8 hk
  obtain ⟨a, ha, e⟩ := hy
  subst e
  obtain ⟨b, hb, e⟩ := hz
  subst e
  rw [I_ni (by omega), I_ni (by omega)] at hQ
  have SY := C.X.S.sy k hk
  have f3 : h'.fr 603 (L.sa k) = some (L.si k) := SY.i1
  have f4 : h'.ai (L.si k) a = ind (8 * k + a) := C.F.di k a hk (by omega)
  rw [a1', adr_some, s1, adr_some]
  refine ⟨R'.B.nn, nn_of rfl C.X.O.k, nn_of rfl C.X.O.s2.k, pc_get (h := h'.srm 0 0) C.X.O.s2 hk (pu ⟨.inr (nn_of rfl SY.k), nn_of rfl SY.k, ?_⟩)⟩
  rw [adr_some, f3]
  refine ⟨ix_of rfl SY.i2 (by omega) (by decide), ?_⟩
  rw [adr_some, I_ni (by omega), f4]
  refine px_has (h := h'.srm 0 0) (by omega) (pu (px_one1 (h := h'.srm 0 0) ?_ (pu (hQ h' R'))))
  by_cases hbt : bt (ind (8 * k + a)) b = true
  · rw [if_pos hbt]; exact .inr rfl
  · rw [if_neg hbt]; exact .inl rfl
theorem q_visit (R : CRep h.c o jn tpa X) (hQ : ∀ h', CRep h'.c o jn tpa (X.ws (qVisit X x y).2) → Q (qVisit X x y).1 h') : wp_X0_visit o x y h Q := by
  unfold wp_X0_visit
  unfold qVisit at hQ
  refine ⟨R.B.nn, px_isAttributeR (h := h.srm 0 0) R (pu ?_)⟩
  rintro m rfl
  refine ⟨R.B.nn, qc0 R (fun h' R' c' s' => ?_)⟩
  by_cases h1 : okA X x y
  rotate_left
  · rw [iP_neg h1] at R' ⊢
    rw [cif_neg h1] at hQ
    exact brT (by decide) (hQ h' R')
  rw [iP_pos h1] at R' ⊢
  rw [cif_pos h1] at hQ
  rw [if_neg (by decide)] at R'
  refine brF (by decide) ?_
  obtain ⟨A, ind, hg, hx, hy⟩ := h1
  obtain ⟨g, L, a1, C⟩ := R'.cg hg
  have a1' : h'.fr 103 o = some g := a1
  have s1 : h'.fr 400 g = some L.sl := C.X.O.s1
  rw [hg] at hQ
  dsimp only at hQ
  have hS := C.W.nS
  obtain ⟨k, hk, e⟩ := hx
  subst e
  rw [I_ni (by omega)] at hQ hy
  have hc8 := C.W.cnt8 hk
  obtain ⟨a, ha, e⟩ := hy
  subst e
  rw [I_ni (by omega)] at hQ
  have SY := C.X.S.sy k hk
  have f5 : h'.fi 605 (L.sa k) = if A.g.self ind k then 0 else I (A.g.vs ind k) := (C.F.vis k hk).n
  have f4 : h'.fr 604 (L.sa k) = some (L.sv k) := SY.v1
  rw [a1', adr_some, s1, adr_some]
  refine ⟨R'.B.nn, nn_of rfl C.X.O.k, nn_of rfl C.X.O.s2.k, pc_get (h := h'.srm 0 0) C.X.O.s2 hk (pu ⟨.inr (nn_of rfl SY.k), nn_of rfl SY.k, ?_⟩)⟩
  rw [adr_some, f5, f4]
  by_cases hse : A.g.self ind k = true
  · simp only [if_pos hse] at hQ ⊢
    exact brT trivial ⟨R'.B.nn, qn0 R' (fun h2 R2 => hQ h2 R2)⟩
  · simp only [if_neg hse] at hQ ⊢
    have hsf : A.g.self ind k = false := by simpa using hse
    have hb := C.I.vb C.W hk hsf
    have v1 := hb.vs1
    have v9 := hb.vs9
    refine brF (fun hh => by have := (I0 (by omega)).1 hh; omega) ⟨ix_of rfl SY.v2 (by omega) (by decide), ?_⟩
    have f6 : h'.ai (L.sv k) a = I (A.g.vo ind k a) := (C.F.vis k hk).v hsf a ha
    rw [adr_some, I_ni (by omega), f6]
    exact hQ h' R'
theorem oI_neg {v : Option Nat} : (v = none → oI v = -1) ∧ (∀ k, v = some k → oI v = I k) := ⟨fun e => by rw [e]; rfl, fun k e => by rw [e]; rfl⟩
theorem CgR.blk {c : HC} (C : CgR c L A g ind) {p : Nat} (hb : A.g.blkP ind = some p) : p < A.g.nP := (fstN_some.1 hb).1
theorem CgR.cir {c : HC} (C : CgR c L A g ind) {p : Nat} (hb : A.g.cirP ind = some p) : p < A.g.nP ∧ (fself (clo (A.g.rI ind p))).isSome = true := ⟨(fstN_some.1 hb).1, (fstN_some.1 hb).2.1⟩
theorem q_ordered (R : CRep h.c o jn tpa X) (hQ : ∀ h', CRep h'.c o jn tpa (X.ws (qOrdered X x).2) → Q (qOrdered X x).1 h') : wp_X0_ordered o x h Q := by
  unfold wp_X0_ordered
  refine px_isInR (h := h.srm 0 0) (m := 2) (by decide) (by decide) (pu ?_)
  unfold qOrdered at hQ
  by_cases hr : inR x 2
  rotate_left
  · rw [iP_neg hr]
    rw [cif_neg hr] at hQ
    refine ⟨fun v U => v = 1 ∧ U = h, brT rfl ⟨rfl, rfl⟩, ?_⟩
    rintro v U ⟨rfl, rfl⟩
    exact ⟨R.B.nn, qc0 R (fun h' R' _ _ => brT (by decide) (hQ h' R'))⟩
  rw [iP_pos hr]
  rw [cif_pos hr] at hQ
  refine ⟨fun v U => v = (if h.fr 103 o = none then 2 else 0) ∧ U = h, brF (by decide) ⟨R.B.nn, fun m hm => ⟨hm, rfl⟩⟩, ?_⟩
  rintro v U ⟨rfl, rfl⟩
  refine ⟨R.B.nn, qc0 R (fun h' R' c' s' => ?_)⟩
  cases hg : X.gr with
  | none =>
    have e0 : U.fr 103 o = none := (R.g0 hg).1
    rw [hg] at hQ
    rw [if_pos e0] at R' ⊢
    exact brT (by decide) (hQ h' R')
  | some q =>
    obtain ⟨A, ind⟩ := q
    obtain ⟨g0, L0, a0, _⟩ := R.cg hg
    have e0 : ¬ U.fr 103 o = none := by rw [show U.fr 103 o = some g0 from a0]; simp
    rw [if_neg e0] at R' ⊢
    rw [hg] at hQ
    dsimp only at hQ
    obtain ⟨g, L, a1, C⟩ := R'.cg hg
    have a1' : h'.fr 103 o = some g := a1
    have f2 : h'.fi 402 g = oI (A.g.blkP ind) := C.F.bl
    have hP := C.W.nP
    rw [a1', adr_some, f2]
    refine brF (by decide) ?_
    cases hb : A.g.blkP ind with
    | none =>
      rw [hb] at hQ
      dsimp only at hQ
      have en : ¬ (0 : Int32) ≤ oI none := by decide
      by_cases h0 : x = 0
      · rw [if_pos h0] at hQ
        refine brT h0 ⟨R'.B.nn, nn_of rfl C.X.O.k, ?_⟩
        intro m hm
        rw [if_neg en] at hm
        rw [hm]
        exact px_one1 (h := h'.srm 0 0) (.inr rfl) (pu (hQ h' R'))
      · rw [if_neg h0] at hQ
        exact brF h0 ⟨R'.B.nn, nn_of rfl C.X.O.k, brF en (qn0 R' (fun h2 R2 => hQ h2 R2))⟩
    | some p =>
      rw [hb] at hQ
      dsimp only at hQ
      have hp := C.blk hb
      have en : (0 : Int32) ≤ oI (some p) := zero_le_I (by omega)
      by_cases h0 : x = 0
      · rw [if_pos h0] at hQ
        refine brT h0 ⟨R'.B.nn, nn_of rfl C.X.O.k, ?_⟩
        intro m hm
        rw [if_pos en] at hm
        rw [hm]
        exact px_one1 (h := h'.srm 0 0) (.inl rfl) (pu (hQ h' R'))
      · rw [if_neg h0] at hQ
        exact brF h0 ⟨R'.B.nn, nn_of rfl C.X.O.k, brT en (hQ h' R')⟩
theorem q_plan (R : CRep h.c o jn tpa X) (hQ : ∀ h', CRep h'.c o jn tpa (X.ws (qPlan X x y).2) → Q (qPlan X x y).1 h') : wp_X0_plan o x y h Q := by
  unfold wp_X0_plan
  unfold qPlan at hQ
  by_cases hy : -1 ≤ y
  rotate_left
  · rw [cif_neg hy] at hQ
    refine ⟨fun v U => v = 1 ∧ U = h, brF hy ⟨rfl, rfl⟩, ?_⟩
    rintro v U ⟨rfl, rfl⟩
    exact ⟨R.B.nn, qc0 R (fun h' R' _ _ => brT (by decide) (hQ h' R'))⟩
  rw [cif_pos hy] at hQ
  by_cases hs : okP X x
  rotate_left
  · rw [cif_neg hs] at hQ
    refine ⟨fun v U => v = 4 ∧ U = h, brT hy ⟨R.B.nn, px_isProductionR (h := h.srm 0 0) R (pu ?_)⟩, ?_⟩
    · rw [iP_neg hs]; exact brT rfl ⟨rfl, rfl⟩
    rintro v U ⟨rfl, rfl⟩
    exact ⟨R.B.nn, qc0 R (fun h' R' _ _ => brT (by decide) (hQ h' R'))⟩
  rw [cif_pos hs] at hQ
  have hs' := hs
  obtain ⟨A, ind, hg, hxs⟩ := hs'
  rw [hg] at hQ
  dsimp only at hQ
  obtain ⟨g0, L0, a0, C0⟩ := R.cg hg
  have a0' : h.fr 103 o = some g0 := a0
  have f0 : h.fi 402 g0 = oI (A.g.blkP ind) := C0.F.bl
  have hP := C0.W.nP
  refine ⟨fun v U => v = (if oI (A.g.blkP ind) < 0 then 0 else 5) ∧ U = h, brT hy ⟨R.B.nn, px_isProductionR (h := h.srm 0 0) R (pu ?_)⟩, ?_⟩
  · rw [iP_pos hs, a0', adr_some, f0]
    exact brF (by decide) ⟨R.B.nn, nn_of rfl C0.X.O.k, fun m hm => ⟨hm, rfl⟩⟩
  rintro v U ⟨rfl, rfl⟩
  refine ⟨R.B.nn, qc0 R (fun h' R' c' s' => ?_)⟩
  cases hb : A.g.blkP ind with
  | some p =>
    rw [hb] at hQ R'
    dsimp only at hQ
    have hp := C0.blk hb
    have en : ¬ oI (some p) < 0 := I_nonneg (by omega)
    rw [if_neg en] at R' ⊢
    exact brT (by decide) (hQ h' R')
  | none =>
    rw [hb] at hQ R'
    dsimp only at hQ
    have en : oI none < 0 := by decide
    rw [if_pos en] at R' ⊢
    refine brF (by decide) ?_
    obtain ⟨g, L, a1, C⟩ := R'.cg hg
    have a1' : h'.fr 103 o = some g := a1
    have s1 : h'.fr 401 g = some L.pl := C.X.O.p1
    obtain ⟨k, hk, e⟩ := hxs
    subst e
    rw [I_ni (by omega)] at hQ
    have PR := C.X.S.pr k hk
    obtain ⟨q, q1, q2, q3, q4⟩ := C.F.pl hb k hk
    rw [Gv.plL_eq q1] at hQ
    have q3' : h'.fi 706 (L.pa k) = I q.2.2.2.length := q3
    have q5 : h'.fr 705 (L.pa k) = some (L.pp k) := C.X.O.q1 k hk
    have q6 : h'.kd (L.pp k) = (40, 104) := C.X.O.q2 k hk
    rw [a1', adr_some, s1, adr_some]
    refine ⟨R'.B.nn, nn_of rfl C.X.O.k, nn_of rfl C.X.O.p2.k, pc_get (h := h'.srm 0 0) C.X.O.p2 hk (pu ⟨.inr (nn_of rfl PR.k), ?_⟩)⟩
    rw [adr_some, q3', q5]
    by_cases hm1 : y = -1
    · rw [if_pos hm1] at hQ
      exact brT hm1 ⟨nn_of rfl PR.k, hQ h' R'⟩
    rw [if_neg hm1] at hQ
    refine brF hm1 ⟨nn_of rfl PR.k, ?_⟩
    have hy0 : 0 ≤ y := by
      rw [Int32.le_iff_toInt_le] at hy ⊢
      have e1 : (-1 : Int32).toInt = -1 := by decide
      have e0 : (0 : Int32).toInt = 0 := by decide
      have : y.toInt ≠ -1 := fun hh => hm1 (Int32.toInt_inj.1 (by rw [hh, e1]))
      omega
    have ey := nnx hy0
    have hyl := ni_lt y
    generalize hj : ni y = j at *
    subst ey
    by_cases hl : j < q.2.2.2.length
    · rw [if_pos hl] at hQ
      refine brF (fun hh => by have := (I_le (by omega) (by omega)).1 hh; omega) ⟨ix_of rfl q6 (by omega) (by decide), ?_⟩
      have q4' : h'.ai (L.pp k) j = q.2.2.2.getD j 0 := q4 j hl
      rw [adr_some, q4']
      exact hQ h' R'
    · rw [if_neg hl] at hQ
      exact brT ((I_le (by omega) (by omega)).2 (by omega)) ⟨R'.B.nn, qn0 R' (fun h2 R2 => hQ h2 R2)⟩
end
