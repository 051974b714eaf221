/-! plain: vk -/
set_option maxRecDepth 100000
section
variable {h : AH} {o jn tpa : Nat} {X : AX} {x y z u : Int32} {L : GA} {A : PG} {g : Nat} {ind : Nat → Int32} {Q : Int32 → AH → Prop} {V : Tv} {sz : Nat → Nat} {gv : Nat → Int32}
variable {hs : Option (Nat × Nat)} {D : TA} {i : Nat} {B : IA} {tu un : Nat} {s : TjS} {ga : Nat} {v : Vl} {zz : Nat}

/-- what a tree's own arrays are: over what writes of them only, all else stays. -/
theorem CRep.arr {c c' : HC} {W : Nat → Nat → Prop} (R : CRep c o jn tpa X) (F : Fr W c c') (hW : ∀ f a, W f a → f = 0 ∧ c.lo ≤ a ∧ (c.kd a = (40, 320) ∨ c.kd a = (42, 320) ∨ c.kd a = (40, 8))) : CbR c' o jn tpa ∧ CtR c' o tpa X ∧ CoR c' ∧ NzJ c' ∧ CsI c' := by
  have nf : ∀ f a, f ≠ 0 → ¬ W f a := fun f a hf hh => hf (hW f a hh).1
  have n0 : ∀ {b t n : Nat}, c.kd b = (t, n) → (t, n) ≠ (40, 320) → (t, n) ≠ (42, 320) → (t, n) ≠ (40, 8) → ¬ W 0 b := fun {b t n} hb h1 h2 h3 hh => by
    rcases (hW 0 b hh).2.2 with e | e | e
    · exact h1 (hb.symm.trans e)
    · exact h2 (hb.symm.trans e)
    · exact h3 (hb.symm.trans e)
  exact ⟨R.B.keep F (nf _ _ (by decide)) (nf _ _ (by decide)) (n0 R.B.j2 (by decide) (by decide) (by decide)), R.Y.kp R.B F (fun f h1 h2 => nf _ _ (by omega)) (n0 R.B.t2 (by decide) (by decide) (by decide)), R.Z.keep F (fun f a hh => (hW f a hh).2.1), R.J.keep F, R.CI.keep F (n0 R.CI.k (by decide) (by decide) (by decide)) (fun a => nf _ _ (by decide))⟩
theorem TrX.keepP {c c' : HC} (K : TrX c L A V gv o zz D i B tu un s ga v) (F : Fr (wP B) c c') : TrX c' L A V gv o zz D i B tu un s ga v := by
  have R := K.R.I.K.R
  have Tr := K.R.I.Tr
  have kp := K.R.I.K.Y.k4
  refine ⟨K.R.keepP F, fun k a hk ha => ?_, ?_, K.dv, K.ij, ?_, ?_, K.rn, K.rm, K.z1, K.z2⟩
  · rw [F.ai _ (R.nd k hk).vl (fun hh => by
      have e := (R.nd k hk).vk
      rw [hh.2, kp] at e
      exact absurd (Prod.mk.inj e).2 (by decide))]
    exact K.Va k a hk ha
  · rw [F.ai _ Tr.l1 (fun hh => Tr.d3 hh.2.symm), F.ai _ Tr.l2 (fun hh => by
      have e := Tr.k2
      rw [hh.2, kp] at e
      exact absurd (Prod.mk.inj e).1 (by decide))]
    exact K.N
  · rw [F.fr _ _ R.xl (fun hh => absurd hh.1 (by decide))]; exact K.fi
  · rw [F.fr _ _ R.tl (fun hh => absurd hh.1 (by decide))]; exact K.rt
theorem CTx.keepP {c c' : HC} (K : CTx c o A ind V gv g L zz hs D i B tu un s ga v) (ol : o < c.sz) (F : Fr (wP B) c c') : CTx c' o A ind V gv g L zz hs D i B tu un s ga v := by
  have kp := K.T.R.I.K.Y.k4
  refine ⟨by rw [F.fr _ _ ol (fun hh => absurd hh.1 (by decide))]; exact K.f3, by have := K.zl; unfold HC.lo at *; rw [F.bs]; exact this, Nat.le_trans K.zs F.sz, K.C.kc K.zs F (fun f a ha hh => ?_), by rw [F.fr _ _ ol (fun hh => absurd hh.1 (by decide))]; exact K.f4, fun x sm e => (K.H x sm e).keep F (fun f h1 h2 hh => by have := hh.1; omega) (fun hh => ?_), K.T.keepP F, K.N⟩
  · have := hh.2
    have := K.T.z2
    omega
  · have e := (K.H x sm e).mk
    rw [hh.2, kp] at e
    exact absurd (Prod.mk.inj e).2 (by decide)
theorem CRep.keepP {c c' : HC} (R : CRep c o jn tpa X) (hg : X.gr = some (A, ind)) (ht : X.tr = some (V, sz, gv)) (K : CTx c o A ind V gv g L zz hs D i B tu un s ga v) (F : Fr (wP B) c c') : CRep c' o jn tpa X := by
  have ol := R.B.l
  obtain ⟨b1, b2, b3, b4, b5⟩ := R.arr F (fun f a hh => ⟨hh.1, by have := K.T.z2; have := K.zl; rw [hh.2]; omega, by rw [hh.2]; exact .inl K.T.R.I.K.Y.k4⟩)
  refine CRep.ofT R.ok b1 b2 b3 b4 b5 hg ht (K.keepP ol F) ?_
  have := R.an (by rw [ht]; simp)
  rw [F.fi _ _ ol (fun hh => absurd hh.1 (by decide)), F.fi _ _ ol (fun hh => absurd hh.1 (by decide))]
  exact this
theorem CRep.insX {c : HC} (R : CRep c o jn tpa X) (hI : okI X x y) : ∃ V sz gv A ind g L z hs D i B tu un s ga v k a, X.tr = some (V, sz, gv) ∧ X.gr = some (A, ind) ∧ trK A V sz ∧ CTx c o A ind V gv g L z hs D i B tu un s ga v ∧ x = I k ∧ y = I a ∧ k < V.n ∧ a < 8 ∧ V.is A.g (8 * k + a) := by
  obtain ⟨V, sz, gv, A, ind, _, _, _, _, _, _, _, _, _, _, _, k, a, ht, hg, K, _, _, _, e1, e2, hk, ha, hi⟩ := R.ins hI
  obtain ⟨g, L, z, hs, D, i, B, tu, un, s, ga, v, T⟩ := R.ctx hg ht
  exact ⟨V, sz, gv, A, ind, g, L, z, hs, D, i, B, tu, un, s, ga, v, k, a, ht, hg, K, T, e1, e2, hk, ha, hi⟩
theorem q_span (R : CRep h.c o jn tpa X) (hc : 40 ≤ h.rc) (hs : 2000 ≤ h.rs) (hQ : ∀ h', CRep h'.c o jn tpa (X.ws (qSpan X x y z).2) → Q (qSpan X x y z).1 h') : wp_X0_span o x y z h Q := by
  unfold wp_X0_span
  unfold qSpan at hQ
  refine px_isInR (h := h.srm 0 0) (m := 2) (by decide) (by decide) (pu ⟨R.B.nn, px_whyInstanceR (h := h.srm 0 0) R (pu ⟨R.B.nn, qc0 R (fun h' R' c' s' => ?_)⟩)⟩)
  by_cases hr : inR z 2
  rotate_left
  · rw [cif_neg hr] at R' hQ ⊢
    exact brT (by decide) (hQ h' R')
  rw [cif_pos hr] at R' hQ ⊢
  by_cases ht : X.tr ≠ none
  rotate_left
  · rw [cif_neg ht] at R' hQ ⊢
    exact brT (by decide) (hQ h' R')
  rw [cif_pos ht] at R' hQ ⊢
  by_cases hI : okI X x y
  rotate_left
  · rw [cif_neg hI] at R' hQ ⊢
    exact brT (by decide) (hQ h' R')
  rw [cif_pos hI] at R' hQ ⊢
  refine brF (by decide) ⟨R'.B.nn, ?_⟩
  obtain ⟨V, sz, gv, A, ind, g, L, w, hz, D, i, B, tu, un, s, ga, v, k, a, ht, hg, K, TX, e1, e2, hk, ha, hi⟩ := R'.insX (X := X.ws 0) hI
  have T := TX.T
  have C := TX.C.up TX.zs
  have e6 : h'.fr 106 o = some i := T.fi
  have h40 := K.n40
  have IS := istO_I gv C.W K.WF C.Y
  rw [e1, e2, I_ni (by omega), I_ni (by omega), AX.S_eq (X := X) hg ht] at hQ
  rw [e6, adr_some, e1, e2, i8]
  generalize hw : 8 * k + a = w0 at *
  by_cases z1 : z = 1
  · intro m hm
    rw [if_pos z1] at hm
    have z0 : ¬ z = 0 := by rw [z1]; decide
    rw [if_neg z0] at hQ
    rw [hm]
    refine ⟨nn_of rfl T.R.I.K.J.k, 1, 320, ⟨by omega, by omega⟩, ?_⟩
    refine px_spanOf (h := h'.srm 1 320) C.W K.WF IS T.R (Nat.le_refl _) (Nat.le_refl _) hi true ?_
    intro h2 F2 _ _ h3 e3
    refine hQ h3 ?_
    rw [e3]
    exact R'.keepP (X := X.ws 0) hg ht TX (c' := h2.c) F2
  · intro m hm
    rw [if_neg z1] at hm
    have z0 : z = 0 := by
      obtain ⟨j, hj, e⟩ := hr
      have : j ≠ 1 := fun hh => z1 (by rw [e, hh]; rfl)
      rw [e, show j = 0 by omega]; rfl
    rw [if_pos z0] at hQ
    rw [hm]
    refine ⟨nn_of rfl T.R.I.K.J.k, 1, 320, ⟨by omega, by omega⟩, ?_⟩
    refine px_spanOf (h := h'.srm 1 320) C.W K.WF IS T.R (Nat.le_refl _) (Nat.le_refl _) hi false ?_
    intro h2 F2 _ _ h3 e3
    refine hQ h3 ?_
    rw [e3]
    exact R'.keepP (X := X.ws 0) hg ht TX (c' := h2.c) F2
end
