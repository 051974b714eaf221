/-! plain: vi -/
set_option maxRecDepth 100000
section
variable {h : AH} {o jn tpa : Nat} {X : AX} {x y z u : Int32} {L : GA} {A : PG} {g : Nat} {ind : Nat → Int32} {Q : Int32 → AH → Prop} {V : Tv} {sz : Nat → Nat} {gv : Nat → Int32}

theorem AX.S_eq (hg : X.gr = some (A, ind)) (ht : X.tr = some (V, sz, gv)) : X.S = istO A.g V gv := by unfold AX.S; rw [hg, ht]
theorem px_isNodeR (R : CRep h.c o jn tpa X) (ht : X.tr = some (V, sz, gv)) (hQ : Q (iP (inR x V.n)) h) : wp_X0_isNode o x h Q := by
  unfold wp_X0_isNode
  obtain ⟨A, ind, hg, K⟩ := R.gt ht
  obtain ⟨g, L, z, D, i, B, tu, un, s, ga, v, a1, C, T⟩ := R.tx hg ht
  have h40 := K.n40
  have e5 : h.fr 105 o = some D.t := T.R.I.K.R.xt
  have e6 : h.fr 1602 D.t = some D.rl := T.R.I.K.R.rw_
  rw [e5, adr_some, e6, adr_some]
  refine ⟨R.B.nn, nn_of rfl T.R.I.K.R.tk, nn_of rfl T.R.I.K.R.rl.k, pc_size (h := h.srm 0 0) T.R.I.K.R.rl (pu ?_)⟩
  refine px_isInR (h := h.srm 0 0) (m := V.n) (by omega) rfl (pu ⟨?_, hQ⟩)
  exact iP_01 _
theorem px_whyNodeR (R : CRep h.c o jn tpa X) {p : Prop} (hQ : Q (cif p (cif (X.tr ≠ none) (cif (okN X x) 0 4) 3) 1) h) : wp_X0_whyNode o (iP p) x h Q := by
  unfold wp_X0_whyNode
  by_cases hp : p
  rotate_left
  · rw [iP_neg hp]; rw [cif_neg hp] at hQ; exact brT rfl hQ
  rw [iP_pos hp]; rw [cif_pos hp] at hQ
  refine brF (by decide) ⟨R.B.nn, ?_⟩
  cases ht : X.tr with
  | none => rw [cif_neg (fun hh => hh ht)] at hQ; exact brT (R.t0 ht) hQ
  | some q =>
    obtain ⟨V, sz, gv⟩ := q
    rw [cif_pos (by rw [ht]; simp)] at hQ
    obtain ⟨A, ind, hg, K⟩ := R.gt ht
    obtain ⟨g, L, z, D, i, B, tu, un, s, ga, v, a1, C, T⟩ := R.tx hg ht
    have e5 : h.fr 105 o = some D.t := T.R.I.K.R.xt
    refine brF (by rw [e5]; simp) (px_isNodeR (h := h.srm 0 0) R ht (pu ?_))
    intro m hm
    have hq : okN X x ↔ inR x V.n := ⟨fun ⟨V', s', g', e, h'⟩ => by rw [ht] at e; have := Option.some.inj e; rw [← (Prod.mk.inj this).1] at h'; exact h', fun h' => ⟨V, sz, gv, ht, h'⟩⟩
    by_cases hr : inR x V.n
    · rw [iP_pos hr, if_neg (by decide)] at hm
      rw [cif_pos (hq.2 hr)] at hQ
      rw [hm]; exact hQ
    · rw [iP_neg hr, if_pos rfl] at hm
      rw [cif_neg (fun hh => hr (hq.1 hh))] at hQ
      rw [hm]; exact hQ
theorem px_isInstanceR (R : CRep h.c o jn tpa X) (ht : X.tr = some (V, sz, gv)) (hQ : Q (iP (okI X x y)) h) : wp_X0_isInstance o x y h Q := by
  unfold wp_X0_isInstance
  obtain ⟨A, ind, hg, K⟩ := R.gt ht
  obtain ⟨g, L, z, D, i, B, tu, un, s, ga, v, a1, C, T⟩ := R.tx hg ht
  have h40 := K.n40
  have TT := T.R.I.K.R
  have e5 : h.fr 105 o = some D.t := TT.xt
  have e6 : h.fr 1602 D.t = some D.rl := TT.rw_
  rw [iP_congr (okI_iff ht hg)] at hQ
  refine ⟨R.B.nn, px_isNodeR (h := h.srm 0 0) R ht (pu ?_)⟩
  by_cases hr : inR x V.n
  rotate_left
  · rw [iP_neg hr]
    rw [iP_neg (fun hh => hr hh.1)] at hQ
    exact brT rfl hQ
  rw [iP_pos hr, e5, adr_some, e6, adr_some]
  have hq : (inR x V.n ∧ inR y (A.g.cnt (V.sm A.g (ni x)))) ↔ inR y (A.g.cnt (V.sm A.g (ni x))) := ⟨fun hh => hh.2, fun hh => ⟨hr, hh⟩⟩
  rw [iP_congr hq] at hQ
  obtain ⟨k, hk, e⟩ := hr
  subst e
  rw [I_ni (by omega)] at hQ
  have hsm := K.WF.smS C.W hk
  have SY := C.X.S.sy _ hsm
  have := C.W.cnt8 hsm
  refine brF (by decide) ⟨R.B.nn, nn_of rfl TT.tk, nn_of rfl TT.rl.k, pc_get (h := h.srm 0 0) TT.rl hk (pu ⟨.inr (nn_of rfl (TT.nd k hk).k), nn_of rfl (TT.nd k hk).k, ?_⟩)⟩
  rw [adr_some]
  refine px_kind (h := h.srm 0 0) K.WF C.W C.X.S TT hk (pu ⟨nn_of rfl SY.k, ?_⟩)
  rw [adr_some]
  refine px_count (h := h.srm 0 0) SY (pu ?_)
  refine px_isInR (h := h.srm 0 0) (m := A.g.cnt (V.sm A.g k)) (by omega) rfl (pu ?_)
  intro m hm
  obtain ⟨e1, e2⟩ := bz_iP hm
  rw [← e1] at hQ
  exact ⟨e2, hQ⟩
theorem px_whyInstanceR (R : CRep h.c o jn tpa X) {p : Prop} (hQ : Q (cif p (cif (X.tr ≠ none) (cif (okI X x y) 0 4) 3) 1) h) : wp_X0_whyInstance o (iP p) x y h Q := by
  unfold wp_X0_whyInstance
  by_cases hp : p
  rotate_left
  · rw [iP_neg hp]; rw [cif_neg hp] at hQ; exact brT rfl hQ
  rw [iP_pos hp]; rw [cif_pos hp] at hQ
  refine brF (by decide) ⟨R.B.nn, ?_⟩
  cases ht : X.tr with
  | none => rw [cif_neg (fun hh => hh ht)] at hQ; exact brT (R.t0 ht) hQ
  | some q =>
    obtain ⟨V, sz, gv⟩ := q
    rw [cif_pos (by rw [ht]; simp)] at hQ
    obtain ⟨A, ind, hg, K⟩ := R.gt ht
    obtain ⟨g, L, z, D, i, B, tu, un, s, ga, v, a1, C, T⟩ := R.tx hg ht
    have e5 : h.fr 105 o = some D.t := T.R.I.K.R.xt
    refine brF (by rw [e5]; simp) (px_isInstanceR (h := h.srm 0 0) R ht (pu ?_))
    intro m hm
    by_cases hr : okI X x y
    · rw [iP_pos hr, if_neg (by decide)] at hm
      rw [cif_pos hr] at hQ
      rw [hm]; exact hQ
    · rw [iP_neg hr, if_pos rfl] at hm
      rw [cif_neg hr] at hQ
      rw [hm]; exact hQ
theorem px_whyInstance1 (R : CRep h.c o jn tpa X) (hQ : Q (cif (X.tr ≠ none) (cif (okI X x y) 0 4) 3) h) : wp_X0_whyInstance o 1 x y h Q := by
  have key := px_whyInstanceR (h := h) (x := x) (y := y) (Q := Q) R (p := True) (by rw [cif_pos trivial]; exact hQ)
  rw [iP_pos trivial] at key
  exact key
/-- an instance as it lies there. -/
theorem CRep.ins {c : HC} (R : CRep c o jn tpa X) (hI : okI X x y) : ∃ V sz gv A ind g L z D i B tu un s ga v k a, X.tr = some (V, sz, gv) ∧ X.gr = some (A, ind) ∧ trK A V sz ∧ c.fr 103 o = some g ∧ CgR c L A g ind ∧ TrX c L A V gv o z D i B tu un s ga v ∧ x = I k ∧ y = I a ∧ k < V.n ∧ a < 8 ∧ V.is A.g (8 * k + a) := by
  obtain ⟨V, sz, gv, A, ind, ht, hg, ⟨k, hk, e1⟩, ⟨a, ha, e2⟩⟩ := hI
  obtain ⟨A', ind', hg', K⟩ := R.gt ht
  have e := hg'.symm.trans hg
  obtain ⟨e3, e4⟩ := Prod.mk.inj (Option.some.inj e)
  subst e3 e4
  obtain ⟨g, L, z, D, i, B, tu, un, s, ga, v, a1, C, T⟩ := R.tx hg ht
  have h40 := K.n40
  rw [e1, I_ni (by omega)] at ha
  have := C.W.cnt8 (K.WF.smS C.W hk)
  refine ⟨V, sz, gv, A', ind', g, L, z, D, i, B, tu, un, s, ga, v, k, a, ht, hg, K, a1, C, T, e1, e2, hk, by omega, ?_⟩
  show (8 * k + a) / 8 < V.n ∧ (8 * k + a) % 8 < A'.g.cnt (V.sm A'.g ((8 * k + a) / 8))
  rw [show (8 * k + a) / 8 = k by omega, show (8 * k + a) % 8 = a by omega]
  exact ⟨hk, ha⟩
theorem i8 {k a : Nat} : 8 * I k + I a = I (8 * k + a) := by
  rw [show (8 : Int32) = I 8 from rfl, I_mul, I_add]
theorem q_value (R : CRep h.c o jn tpa X) (hQ : ∀ h', CRep h'.c o jn tpa (X.ws (qValue X x y).2) → Q (qValue X x y).1 h') : wp_X0_value o x y h Q := by
  unfold wp_X0_value
  unfold qValue at hQ
  refine ⟨R.B.nn, px_whyInstance1 (h := h.srm 0 0) R (pu ⟨R.B.nn, qc0 R (fun h' R' c' s' => ?_)⟩)⟩
  by_cases ht : X.tr ≠ none
  rotate_left
  · rw [cif_neg ht] at R' hQ ⊢
    exact brT (by decide) (hQ h' R')
  rw [cif_pos ht] at R' hQ ⊢
  by_cases hI : okI X x y
  rotate_left
  · rw [cif_neg hI] at R' hQ ⊢
    exact brT (by decide) (hQ h' R')
  rw [cif_pos hI] at R' hQ ⊢
  refine brF (by decide) ⟨R'.B.nn, ?_⟩
  obtain ⟨V, sz, gv, A, ind, g, L, z, D, i, B, tu, un, s, ga, v, k, a, ht, hg, K, a1, C, T, e1, e2, hk, ha, hi⟩ := R'.ins (X := X.ws 0) hI
  have e6 : h'.fr 106 o = some i := T.fi
  have h40 := K.n40
  rw [e1, e2, I_ni (by omega), I_ni (by omega), AX.S_eq (X := X) hg ht] at hQ
  rw [e6, adr_some, e1, e2, i8]
  refine ⟨nn_of rfl T.R.I.K.J.k, px_valueOf (h := h'.srm 0 0) T.R.I.K.R K.WF T.R.I.K.J T.Va (by omega) (pu ?_)⟩
  obtain ⟨q, hq1, hq⟩ := T.R.I.F.a _ hi
  rw [T.N.a _ q hq hq1]
  exact hQ h' R'
end
