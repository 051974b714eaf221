/-! plain: vj -/
set_option maxRecDepth 100000
section
variable {h : AH} {o jn tpa : Nat} {X : AX} {x y z u : Int32} {L : GA} {A : PG} {g : Nat} {ind : Nat → Int32} {Q : Int32 → AH → Prop} {V : Tv} {sz : Nat → Nat} {gv : Nat → Int32}

theorem q_anew (R : CRep h.c o jn tpa X) (hQ : ∀ h', CRep h'.c o jn tpa (X.ws (qAnew X x).2) → Q (qAnew X x).1 h') : wp_X0_anew o x h Q := by
  unfold wp_X0_anew
  refine px_isInR (h := h.srm 0 0) (m := 2) (by decide) (by decide) (pu ?_)
  unfold qAnew at hQ
  by_cases hr : inR x 2
  rotate_left
  · rw [iP_neg hr]
    rw [cif_neg hr] at hQ
    refine ⟨fun v U => v = 1 ∧ U = h, brT rfl ⟨rfl, rfl⟩, ?_⟩
    rintro v U ⟨rfl, rfl⟩
    exact ⟨R.B.nn, qc0 R (fun h' R' _ _ => brT (by decide) (hQ h' R'))⟩
  rw [iP_pos hr]
  rw [cif_pos hr] at hQ
  cases ht : X.tr with
  | none =>
    rw [cif_neg (fun hh => hh ht)] at hQ
    refine ⟨fun v U => v = 3 ∧ U = h, brF (by decide) ⟨R.B.nn, brT (R.t0 ht) ⟨rfl, rfl⟩⟩, ?_⟩
    rintro v U ⟨rfl, rfl⟩
    exact ⟨R.B.nn, qc0 R (fun h' R' _ _ => brT (by decide) (hQ h' R'))⟩
  | some q =>
    have htn : X.tr ≠ none := by rw [ht]; simp
    obtain ⟨V, sz, gv⟩ := q
    rw [cif_pos htn] at hQ
    obtain ⟨A, ind, hg, K⟩ := R.gt ht
    obtain ⟨g, L, z, D, i, B, tu, un, s, ga, v, a1, C, T⟩ := R.tx hg ht
    have e5 : h.fr 105 o = some D.t := T.R.I.K.R.xt
    refine ⟨fun v U => v = (if 0 ≤ h.fi 110 o then 0 else 7) ∧ U = h, brF (by decide) ⟨R.B.nn, brF (by rw [e5]; simp) (fun m hm => ⟨hm, rfl⟩)⟩, ?_⟩
    rintro v U ⟨rfl, rfl⟩
    refine ⟨R.B.nn, qc0 R (fun h' R' c' s' => ?_)⟩
    cases ha : X.an with
    | none =>
      have e := (R.an htn).1 ha
      rw [ha] at hQ
      rw [show U.fi 110 o = -1 from e, if_neg (by decide)] at R' ⊢
      exact brT (by decide) (hQ h' R')
    | some p =>
      obtain ⟨a, b⟩ := p
      rw [ha] at hQ
      obtain ⟨e1, e2, hge⟩ := (R.an htn).2 a b ha
      obtain ⟨f1, f2, _⟩ := (R'.an htn).2 a b ha
      rw [show U.fi 110 o = I a from e1, if_pos (zero_le_I (by omega))] at R' ⊢
      refine brF (by decide) ?_
      rw [show h'.fi 110 o = I a from f1, show h'.fi 111 o = I b from f2]
      by_cases h0 : x = 0
      · simp only [if_pos h0] at hQ
        exact brT h0 ⟨R'.B.nn, hQ h' R'⟩
      · simp only [if_neg h0] at hQ
        exact brF h0 ⟨R'.B.nn, hQ h' R'⟩
theorem q_longest (R : CRep h.c o jn tpa X) (hc : 40 ≤ h.rc) (hs : 2000 ≤ h.rs) (hQ : ∀ h', CRep h'.c o jn tpa (X.ws (qLongest X).2) → Q (qLongest X).1 h') : wp_X0_longest o h Q := by
  unfold wp_X0_longest
  unfold qLongest at hQ
  refine ⟨R.B.nn, ?_⟩
  cases ht : X.tr with
  | none =>
    rw [ht] at hQ
    rintro m rfl
    rw [if_pos (show h.fr 105 o = none from R.t0 ht)]
    exact qc0 R (fun h' R' _ _ => brT (by decide) (hQ h' R'))
  | some q =>
    obtain ⟨V, sz, gv⟩ := q
    rw [ht] at hQ
    dsimp only at hQ
    obtain ⟨A, ind, hg, K⟩ := R.gt ht
    obtain ⟨g0, L0, z0, D0, _, _, _, _, _, _, _, _, _, T0⟩ := R.tx hg ht
    have e5 : h.fr 105 o = some D0.t := T0.R.I.K.R.xt
    rintro m rfl
    rw [if_neg (by rw [e5]; simp)]
    refine qc0 R (fun h' R' c' s' => brF (by decide) ⟨R'.B.nn, ?_⟩)
    obtain ⟨g, L, z, D, i, B, tu, un, s, ga, v, a1, C, T⟩ := R'.tx (X := X.ws 0) hg ht
    have e6 : h'.fr 106 o = some i := T.fi
    rw [e6, adr_some]
    rw [AX.S_eq hg ht] at hQ
    refine ⟨nn_of rfl T.R.I.K.J.k, 1, 320, ⟨by omega, by omega⟩, px_longestRow (h := h'.srm 1 320) C.W K.WF (istO_I gv C.W K.WF C.Y) T.R (Nat.le_refl _) (Nat.le_refl _) ?_⟩
    intro h2 F2 _ _ h3 e3
    refine hQ h3 ?_
    rw [e3]
    exact R'.w0 (h' := h2) (F2.mono (fun f a _ hh => hh))
theorem q_knot (R : CRep h.c o jn tpa X) (hQ : ∀ h', CRep h'.c o jn tpa (X.ws (qKnot X x y z).2) → Q (qKnot X x y z).1 h') : wp_X0_knot o x y z h Q := by
  unfold wp_X0_knot
  unfold qKnot at hQ
  refine px_isInR (h := h.srm 0 0) (m := 5) (by decide) (by decide) (pu ⟨R.B.nn, px_whyInstanceR (h := h.srm 0 0) R (pu ⟨R.B.nn, qc0 R (fun h' R' c' s' => ?_)⟩)⟩)
  by_cases hr : inR z 5
  rotate_left
  · rw [cif_neg hr] at R' hQ ⊢
    exact brT (by decide) (hQ h' R')
  rw [cif_pos hr] at R' hQ ⊢
  by_cases ht : X.tr ≠ none
  rotate_left
  · rw [cif_neg ht] at R' hQ ⊢
    exact brT (by decide) (hQ h' R')
  rw [cif_pos ht] at R' hQ ⊢
  by_cases hI : okI X x y
  rotate_left
  · rw [cif_neg hI] at R' hQ ⊢
    exact brT (by decide) (hQ h' R')
  rw [cif_pos hI] at R' hQ ⊢
  refine brF (by decide) ⟨R'.B.nn, ?_⟩
  obtain ⟨V, sz, gv, A, ind, g, L, w, D, i, B, tu, un, s, ga, v, k, a, ht, hg, K, a1, C, T, e1, e2, hk, ha, hi⟩ := R'.ins (X := X.ws 0) hI
  have e6 : h'.fr 106 o = some i := T.fi
  have h40 := K.n40
  have IS := istO_I gv C.W K.WF C.Y
  rw [e1, e2, I_ni (by omega), I_ni (by omega), AX.S_eq (X := X) hg ht] at hQ
  rw [e6, adr_some, e1, e2, i8]
  generalize hw : 8 * k + a = w0 at *
  have hwl : w0 < 320 := by omega
  generalize hSS : istO A.g V gv = S at *
  refine ⟨nn_of rfl T.R.I.K.J.k, px_inKnot (h := h'.srm 0 0) IS K.WF T.R.I hi (pu ?_)⟩
  by_cases htr : Trc S.E w0 w0
  rotate_left
  · rw [iP_neg htr]
    rw [cif_neg htr] at hQ
    exact brT rfl ⟨R'.B.nn, qn0 R' (fun h2 R2 => hQ h2 R2)⟩
  rw [iP_pos htr]
  rw [cif_pos htr] at hQ
  have f1 : h'.fr 1701 i = some B.kn := T.R.I.K.Y.f1
  have f2 : h'.fr 1710 i = some tu := T.R.I.Tr.f1
  have f3 : h'.fr 1711 i = some un := T.R.I.Tr.f2
  obtain ⟨q, hq1, hq⟩ := T.R.I.F.a _ hi
  have h320 := T.R.I.F.n
  have f4 : h'.ai B.kn w0 = I q := by rw [show h'.ai B.kn w0 = oI (s.kn w0) from T.R.I.R.kn w0 (by omega), hq]; rfl
  have hkt : s.kt q = true := (T.R.I.F.f w0 q hq).2 (by rw [IS.ee] at htr; exact htr)
  obtain ⟨f5, f6⟩ := T.N.b w0 q hq hq1 hkt
  rw [hSS] at f5 f6
  have hV : S.V w0 := (IS.vv w0).2 hi
  have hhd : ∀ j, V.is A.g j → s.kn j = some q → (∀ l, l < j → s.kn l ≠ some q) → S.hd w0 = j := by
    intro j hj ej hm
    have hc : j ∈ cls S.E S.M w0 := (T.R.I.F.clS C.W K.WF IS hi hq j).2 (by rw [ej])
    have h1 := S.hd_le hV hc
    have h2 := (T.R.I.F.clS C.W K.WF IS hi hq _).1 (S.hd_mem hV)
    rcases Nat.lt_or_ge (S.hd w0) j with h3 | h3
    · exact absurd h2 (hm _ h3)
    · omega
  rw [e6, adr_some i, f1, f2, f3, adr_some B.kn, adr_some tu, adr_some un, I_ni (show w0 < 2147483648 by omega), f4]
  refine brF (by decide) ⟨R'.B.nn, nn_of rfl T.R.I.K.J.k, ix_of rfl T.R.I.K.Y.k1 hwl (by decide), ?_⟩
  rw [I_ni (show q < 2147483648 by omega)]
  by_cases z0 : z = 0
  · rw [if_pos z0] at hQ
    exact brT z0 (px_sizeOf (h := h'.srm 0 0) C.W IS K.WF T.R.I hi hq (pu (hQ h' R')))
  rw [if_neg z0] at hQ
  refine brF z0 ?_
  by_cases z1 : z = 1
  · rw [if_pos z1] at hQ
    refine brT z1 ⟨ix_of rfl T.R.I.Tr.k1 (by omega) (by decide), ?_⟩
    rw [show h'.ai tu q = I (S.tn w0) from f5]
    exact hQ h' R'
  rw [if_neg z1] at hQ
  refine brF z1 ?_
  by_cases z2 : z = 2
  · rw [if_pos z2] at hQ
    refine brT z2 ⟨ix_of rfl T.R.I.Tr.k2 (by omega) (by decide), ?_⟩
    rw [show h'.ai un q = (if S.us w0 then 1 else 0) from f6]
    refine px_one1 (h := h'.srm 0 0) ?_ (pu (hQ h' R'))
    by_cases hu : S.us w0 = true
    · rw [if_pos hu]; exact .inr rfl
    · rw [if_neg hu]; exact .inl rfl
  rw [if_neg z2] at hQ
  refine brF z2 ?_
  by_cases z3 : z = 3
  · rw [if_pos z3] at hQ
    refine brT z3 (px_firstOf (h := h'.srm 0 0) T.R.I K.WF hq1 (fun j hj ej hm => pu ?_))
    have hjl := K.WF.isLt hj
    rw [hhd j hj ej hm] at hQ
    rw [show (I j / 8 : Int32) = I (j / 8) by (first | omega | ((try simp (disch := omega) only [L_le, le_L, L_lt, lt_L, eq_L, L_eq, I_le, I_lt, I_eq, I_ni, add_L, L_add, I_add, mul_L, L_mul, I_mul, sub_L, L_sub, I_sub, div_L, rem_L]); done) | ((try simp (disch := omega) only [L_le, le_L, L_lt, lt_L, eq_L, L_eq, I_le, I_lt, I_eq, I_ni, add_L, L_add, I_add, mul_L, L_mul, I_mul, sub_L, L_sub, I_sub, div_L, rem_L]); omega))]
    exact hQ h' R'
  · rw [if_neg z3] at hQ
    refine brF z3 (px_firstOf (h := h'.srm 0 0) T.R.I K.WF hq1 (fun j hj ej hm => pu ?_))
    have hjl := K.WF.isLt hj
    rw [hhd j hj ej hm] at hQ
    rw [show (jrem (I j) 8 : Int32) = I (j % 8) by (first | omega | ((try simp (disch := omega) only [L_le, le_L, L_lt, lt_L, eq_L, L_eq, I_le, I_lt, I_eq, I_ni, add_L, L_add, I_add, mul_L, L_mul, I_mul, sub_L, L_sub, I_sub, div_L, rem_L]); done) | ((try simp (disch := omega) only [L_le, le_L, L_lt, lt_L, eq_L, L_eq, I_le, I_lt, I_eq, I_ni, add_L, L_add, I_add, mul_L, L_mul, I_mul, sub_L, L_sub, I_sub, div_L, rem_L]); omega))]
    exact hQ h' R'
end
