/-! plain: vn -/
set_option maxRecDepth 100000
section
variable {h : AH} {o jn tpa : Nat} {X : AX} {x y z u : Int32} {L : GA} {A : PG} {g : Nat} {ind : Nat → Int32} {Q : Int32 → AH → Prop} {V : Tv} {sz : Nat → Nat} {gv : Nat → Int32}
variable {D : TA}

theorem okN_iff (ht : X.tr = some (V, sz, gv)) : okN X x ↔ inR x V.n := ⟨fun ⟨V', s', g', e, h'⟩ => by rw [ht] at e; have := Option.some.inj e; rw [← (Prod.mk.inj this).1] at h'; exact h', fun h' => ⟨V, sz, gv, ht, h'⟩⟩
theorem q_node (R : CRep h.c o jn tpa X) (hc : 40 ≤ h.rc) (hs : 2000 ≤ h.rs) (hQ : ∀ h', CRep h'.c o jn tpa (X.ws (qNode X x y).2) → Q (qNode X x y).1 h') : wp_X0_node o x y h Q := by
  unfold wp_X0_node
  unfold qNode at hQ
  refine px_isInR (h := h.srm 0 0) (m := 9) (by decide) (by decide) (pu ⟨R.B.nn, px_whyNodeR (h := h.srm 0 0) R (pu ⟨R.B.nn, qc0 R (fun h' R' c' s' => ?_)⟩)⟩)
  by_cases hr : inR y 9
  rotate_left
  · rw [cif_neg hr] at R' hQ ⊢
    exact brT (by decide) (hQ h' R')
  rw [cif_pos hr] at R' hQ ⊢
  cases ht : X.tr with
  | none =>
    rw [ht] at hQ
    rw [cif_neg (fun hh => hh ht)] at R'
    rw [cif_neg (fun hh => hh rfl)]
    exact brT (by decide) (hQ h' R')
  | some r =>
    obtain ⟨V, sz, gv⟩ := r
    rw [cif_pos (by rw [ht]; simp)] at R'
    rw [cif_pos (by simp)]
    obtain ⟨A, ind, hg, K⟩ := R.gt ht
    rw [ht, hg] at hQ
    dsimp only at hQ
    by_cases hI : inR x V.n
    rotate_left
    · rw [cif_neg (fun hh => hI ((okN_iff ht).1 hh))] at R' ⊢
      rw [cif_neg hI] at hQ
      exact brT (by decide) (hQ h' R')
    rw [cif_pos ((okN_iff ht).2 hI)] at R' ⊢
    rw [cif_pos hI] at hQ
    refine brF (by decide) ⟨R'.B.nn, ?_⟩
    obtain ⟨g, L, w, D, i, B, tu, un, s, ga, v, a1, C, T⟩ := R'.tx (X := X.ws 0) hg ht
    have TT := T.R.I.K.R
    have e5 : h'.fr 105 o = some D.t := TT.xt
    have e6 : h'.fr 1602 D.t = some D.rl := TT.rw_
    have a1' : h'.fr 103 o = some g := a1
    have s1 : h'.fr 401 g = some L.pl := C.X.O.p1
    have h40 := K.n40
    obtain ⟨k, hk, e⟩ := hI
    subst e
    rw [I_ni (by omega)] at hQ
    have N := TT.nd k hk
    have hpd := K.WF.pd k hk
    have hP := C.W.nP
    have hk3 := C.W.kn _ hpd
    have PR := C.X.S.pr _ hpd
    have szk : k + sz k ≤ V.n := (K.nd k hk).s2
    have d12 : V.dp k < 12 := (K.nd k hk).d
    have f0 : h'.fr 1500 (D.r k) = some (L.pa (V.pd k)) := N.p
    have f1 : h'.fi 1501 (D.r k) = V.nu k := N.nu
    have f3 : h'.fi 1503 (D.r k) = I (V.dp k) := N.dp
    have f4 : h'.fr 1504 (D.r k) = (V.pa k).map D.r := N.pa
    have f6 : h'.fr 1506 (D.r k) = some (D.cl k) := N.ch
    rw [e5, adr_some, e6, adr_some]
    refine ⟨nn_of rfl TT.tk, nn_of rfl TT.rl.k, pc_get (h := h'.srm 0 0) TT.rl hk (pu ⟨.inr (nn_of rfl N.k), ?_⟩)⟩
    rw [adr_some, a1', adr_some, s1, adr_some, f0, f1, f3, f4, f6, adr_some]
    obtain ⟨j, hj, e⟩ := hr
    subst e
    rw [I_ni (by omega)] at hQ
    have ne : ∀ m : Nat, m < 100 → j ≠ m → ¬ I j = I m := fun m hm hh he => hh ((I_eq (by omega) (by omega)).1 he)
    by_cases j0 : j = 0
    · subst j0
      rw [if_pos (show I 0 = 0 from rfl)] at hQ
      refine brT rfl ⟨R'.B.nn, nn_of rfl C.X.O.k, nn_of rfl N.k, nn_of rfl C.X.O.p2.k, ?_⟩
      refine pc_indexOfO (h := h'.srm 0 0) C.X.O.p2 (by omega) (.inr (.inl PR.k)) hpd rfl (fun m hm em => ?_) (pu (hQ h' R'))
      have := C.pA (by omega) hpd em
      omega
    rw [if_neg (show ¬ I j = 0 from ne 0 (by decide) j0)] at hQ
    refine brF (show ¬ I j = 0 from ne 0 (by decide) j0) ?_
    by_cases j1 : j = 1
    · subst j1
      rw [if_pos (show I 1 = 1 from rfl)] at hQ
      exact brT rfl ⟨nn_of rfl N.k, hQ h' R'⟩
    rw [if_neg (show ¬ I j = 1 from ne 1 (by decide) j1)] at hQ
    refine brF (show ¬ I j = 1 from ne 1 (by decide) j1) ?_
    by_cases j2 : j = 2
    · subst j2
      rw [if_pos (show I 2 = 2 from rfl)] at hQ
      refine brT rfl ⟨nn_of rfl N.k, ?_⟩
      cases hp : V.pa k with
      | none =>
        rw [hp] at hQ
        exact brT rfl (hQ h' R')
      | some q =>
        rw [hp] at hQ
        obtain ⟨hq, _⟩ := K.dpa hk hp
        have Nq := TT.nd q (by omega)
        have eq : h'.fi 1502 (D.r q) = I q := Nq.ix
        refine brF (by simp) ⟨nn_of rfl Nq.k, ?_⟩
        show Q (h'.fi 1502 (adr (some (D.r q)))) h'
        rw [adr_some, eq]
        exact hQ h' R'
    rw [if_neg (show ¬ I j = 2 from ne 2 (by decide) j2)] at hQ
    refine brF (show ¬ I j = 2 from ne 2 (by decide) j2) ?_
    by_cases j3 : j = 3
    · subst j3
      rw [if_pos (show I 3 = 3 from rfl)] at hQ
      exact brT rfl ⟨nn_of rfl N.k, nn_of rfl N.ls.k, pc_size (h := h'.srm 0 0) N.ls (pu (hQ h' R'))⟩
    rw [if_neg (show ¬ I j = 3 from ne 3 (by decide) j3)] at hQ
    refine brF (show ¬ I j = 3 from ne 3 (by decide) j3) ?_
    by_cases j7 : j = 7
    · subst j7
      rw [if_pos (show I 7 = 7 from rfl)] at hQ
      refine brF (by decide) (brT rfl ⟨nn_of rfl N.k, 40, 160, ⟨by omega, by omega⟩, ?_⟩)
      refine px_below K 15 k (h'.srm 40 160) _ hk (by omega) TT (by show sz k ≤ 40; omega) (by show 4 * sz k ≤ 160; omega) ?_
      intro h2 F2 _ _ h3 e3
      exact hQ h3 (by rw [e3]; exact R'.w0 (h' := h2) F2)
    rw [if_neg (show ¬ I j = 7 from ne 7 (by decide) j7)] at hQ
    by_cases j8 : j = 8
    · subst j8
      rw [if_pos (show I 8 = 8 from rfl)] at hQ
      exact brF (by decide) (brF (by decide) (brT rfl ⟨nn_of rfl N.k, hQ h' R'⟩))
    rw [if_neg (show ¬ I j = 8 from ne 8 (by decide) j8)] at hQ
    have h456 : I j = 4 ∨ I j = 5 ∨ I j = 6 := by
      rcases (show j = 4 ∨ j = 5 ∨ j = 6 by omega) with e | e | e <;> subst e
      · exact .inl rfl
      · exact .inr (.inl rfl)
      · exact .inr (.inr rfl)
    refine brT h456 ⟨nn_of rfl N.k, nn_of rfl N.ls.k, pc_size (h := h'.srm 0 0) N.ls (pu ?_)⟩
    rw [show I j - 4 = I (j - 4) from I_sub (a := j) (b := 4) (by omega), f6, adr_some]
    by_cases hl : j - 4 < A.g.kn (V.pd k)
    · rw [if_pos hl] at hQ
      have hkid := (K.kid hk (j := j - 4 + 1) (by omega) (by omega))
      have Nk := TT.nd (V.kd k (j - 4 + 1)) (by omega)
      have ek : h'.fi 1502 (D.r (V.kd k (j - 4 + 1))) = I (V.kd k (j - 4 + 1)) := Nk.ix
      refine brF (fun hh => by have := (I_le (by omega) (by omega)).1 hh; omega) ⟨nn_of rfl N.k, nn_of rfl N.ls.k, pc_get (h := h'.srm 0 0) N.ls hl (pu ⟨.inr (nn_of rfl Nk.k), nn_of rfl Nk.k, ?_⟩)⟩
      rw [adr_some, ek]
      exact hQ h' R'
    · rw [if_neg hl] at hQ
      exact brT ((I_le (by omega) (by omega)).2 (by omega)) ⟨R'.B.nn, qn0 R' (fun h2 R2 => hQ h2 R2)⟩
end
