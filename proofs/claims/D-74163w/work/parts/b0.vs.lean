/-! plain: vs -/
set_option maxRecDepth 100000
section
variable {h h0 : AH} {o jn tpa : Nat} {X : AX} {x y z u : Int32} {L : GA} {A : PG} {g : Nat} {ind : Nat → Int32} {Q : Int32 → AH → Prop} {V V' : Tv} {sz : Nat → Nat} {gv gv' : Nat → Int32}
variable {D : TA}

/-- a change, from all that is known ahead of it. -/
theorem px_chg {W : Nat → Nat → Prop} (R : CRep h0.c o jn tpa (X.ws 0)) (hg : X.gr = some (A, ind)) (ht : X.tr = some (V, sz, gv)) (K : trK A V sz) {zz : Nat} {hsh : Option (Nat × Nat)} {i : Nat} {B : IA} {tu un : Nat} {s : TjS} {ga : Nat} {v : Vl} (TX : CTx h0.c o A ind V gv g L zz hsh D i B tu un s ga v)
    (F : Fr W h0.c h.c) (hW : ∀ f a, W f a → (f = 0 ∧ a = ga) ∨ f = 1501) (K' : trK A V' sz) (d0 : V'.dp 0 = 0) (en : V'.n = V.n) (eis : ∀ i, V'.is A.g i ↔ V.is A.g i) (eed : V'.ed A.g = V.ed A.g) (TR : TrR h.c L D A.g V' o) (GN : GnR h.c D ga gv')
    {du : Nat} {due : Nat → Prop} (kdu : h.kd du = (42, 320)) (ldu : du < h.sz) (vdu : ∀ i, i < 8 * V'.n → h.ai du i = iP (due i)) (hF : ∀ j, V.is A.g j → ¬ due j → ∀ w, V.mk A.g gv j w = V'.mk A.g gv' j w)
    (hc : 12 ≤ h.rc) (hs : 3533 ≤ h.rs) {P : AH → Prop} (hP : ∀ h', CRep h'.c o jn tpa (X.cg A V' sz gv' due (fun _ => False) X.S.val) → P h') : wp_X0_changes o (some du) h P := by
  have T := TX.T
  have C := TX.C.up TX.zs
  have ol := R.B.l
  have IN := T.R.I
  have kga := T.R.Gn.k
  have nf : ∀ f a, f ≠ 0 → f ≠ 1501 → ¬ W f a := fun f a h1 h2 hh => by
    rcases hW f a hh with e | e
    · exact h1 e.1
    · exact h2 e
  have n0 : ∀ {a t m : Nat}, h0.c.kd a = (t, m) → (t, m) ≠ (40, 4) → ¬ W 0 a := fun {a t m} hk h8 hh => by
    rcases hW 0 a hh with e | e
    · rw [e.2, kga] at hk
      exact h8 hk.symm
    · omega
  have IS := istO_I gv C.W K.WF C.Y
  have eS := AX.S_eq hg ht
  have hP' : ∀ h', CRep h'.c o jn tpa (X.cg A V' sz gv' due (fun _ => False) v) → P h' := fun h' R9 => by
    refine hP h' ?_
    have IS' := istO_I gv' C.W K'.WF C.Y
    rw [AX.cg_congr IS' (due' := due) (nw' := fun _ => False) (old' := v) (fun _ _ => Iff.rfl) (fun _ _ => Iff.rfl) (fun j hj _ => ?_)]
    · exact R9
    · obtain ⟨q, q1, q2⟩ := IN.F.a j ((eis j).1 hj)
      rw [eS]
      exact (T.N.a j q q2 q1).symm
  refine px_changes (g := g) (L := L) (zz := zz) (hsh := hsh) (V := V) (gv := gv) (B := B) (i0 := i) (tu := tu) (un := un) (s := s) (v := v) R.ok (R.B.keep F (nf _ _ (by decide) (by decide)) (nf _ _ (by decide) (by decide)) (n0 R.B.j2 (by decide))) (R.Y.kp R.B F (fun f h1 h2 => nf _ _ (by omega) (by omega)) (n0 R.B.t2 (by decide))) (R.Z.keep' F (fun a => nf _ _ (by decide) (by decide)) (fun a => nf _ _ (by decide) (by decide)) (fun v hv => n0 (t := (h0.c.kd v).1) (m := (h0.c.kd v).2) rfl (fun e => by have := (Prod.mk.inj e).1; omega))) (R.J.keep F) (R.CI.keep F (n0 R.CI.k (by decide)) (fun a => nf _ _ (by decide) (by decide))) hg
    ?_ ?_ ?_ ?_ ?_ ?_ K K' d0 en eis eed TR GN ?_ IN.F ?_ ?_ ?_ ?_ ?_ ?_ ?_ ?_ T.rm ?_ ?_ ?_ kdu ldu vdu hF hc hs hP'
  · rw [F.fr _ _ ol (nf _ _ (by decide) (by decide))]; exact TX.f3
  · have : h.c.lo = h0.c.lo := by unfold HC.lo; rw [F.bs]
    rw [this]; exact TX.zl
  · exact Nat.le_trans TX.zs F.sz
  · refine TX.C.kc TX.zs F (fun f a ha hh => ?_)
    rcases hW f a hh with e | e
    · have := T.z2
      omega
    · exact .inl (by omega)
  · rw [F.fr _ _ ol (nf _ _ (by decide) (by decide))]; exact TX.f4
  · exact fun x sm e => (TX.H x sm e).keep F (fun f h1 h2 => nf _ _ (by omega) (by omega)) (n0 (TX.H x sm e).mk (by decide))
  · intro tu' un' h1 h2
    have J := IN.K.J
    have l1 : B.kn < h.c.sz := Nat.lt_of_lt_of_le IN.K.Y.l1 F.sz
    have l2 : tu < h.c.sz := Nat.lt_of_lt_of_le IN.Tr.l1 F.sz
    have l3 : un < h.c.sz := Nat.lt_of_lt_of_le IN.Tr.l2 F.sz
    have e9 : h.c.sz = h.sz := rfl
    refine ⟨by rw [F.kd _ J.l]; exact J.k, Nat.lt_of_lt_of_le J.l F.sz, by rw [F.fr _ _ J.l (nf _ _ (by decide) (by decide))]; exact IN.K.Y.f1, by rw [F.fr _ _ J.l (nf _ _ (by decide) (by decide))]; exact IN.Tr.f1, by rw [F.fr _ _ J.l (nf _ _ (by decide) (by decide))]; exact IN.Tr.f2, by rw [F.kd _ IN.K.Y.l1]; exact IN.K.Y.k1, by rw [F.kd _ IN.Tr.l1]; exact IN.Tr.k1, by rw [F.kd _ IN.Tr.l2]; exact IN.Tr.k2, l1, l2, l3, by omega, by omega, by omega⟩
  · intro i hi
    rw [F.ai _ IN.K.Y.l1 (n0 IN.K.Y.k1 (by decide))]; exact IN.R.kn i hi
  · intro k a hk ha
    rw [en] at hk
    rw [F.ai _ (IN.K.R.nd k hk).vl (n0 (IN.K.R.nd k hk).vk (by decide))]; exact T.Va k a hk ha
  · rw [F.ai _ IN.Tr.l1 (n0 IN.Tr.k1 (by decide)), F.ai _ IN.Tr.l2 (n0 IN.Tr.k2 (by decide))]; exact T.N
  · exact (F.fr _ _ ol (nf _ _ (by decide) (by decide))).trans T.fi
  · rw [show VaD D V' = VaD D V from by unfold VaD; rw [en]]; exact T.dv
  · rw [en]; exact T.ij
  · rw [F.fr _ _ IN.K.R.tl (nf _ _ (by decide) (by decide))]; exact T.rt
  · rw [en]; exact T.rn
  · rw [en]; exact T.z1
  · have := T.z2
    omega
  · rw [en]; exact TX.N
theorem q_give (R : CRep h.c o jn tpa X) (hc : 40 ≤ h.rc) (hs : 5000 ≤ h.rs) (hQ : ∀ h', CRep h'.c o jn tpa (xGive X x y) → Q (qGive X x y) h') : wp_X0_give o x y h Q := by
  unfold wp_X0_give
  unfold xGive qGive at hQ
  refine ⟨R.B.nn, ?_⟩
  cases ht : X.tr with
  | none =>
    rw [ht] at hQ
    refine ⟨fun v U => v = 3 ∧ U = h, brT (R.t0 ht) ⟨rfl, rfl⟩, ?_⟩
    rintro v U ⟨rfl, rfl⟩
    exact ⟨R.B.nn, qc0 R (fun h' R' _ _ => brT (by decide) (hQ h' R'))⟩
  | some r =>
  obtain ⟨V, sz, gv⟩ := r
  obtain ⟨A, ind, hg, K⟩ := R.gt ht
  have d0 : V.dp 0 = 0 := by
    obtain ⟨_, _, _, _, e⟩ := R.ok.t V sz gv ht
    exact e
  rw [ht, hg] at hQ
  dsimp only at hQ
  obtain ⟨g1, L1, z1, D1, i1, B1, tu1, un1, s1, ga1, v1, a1, C1, T1⟩ := R.tx hg ht
  have n1 := K.n1
  have h40 := K.n40
  have TT := T1.R.I.K.R
  have e5 : h.fr 105 o = some D1.t := TT.xt
  have e0 : h.fr 1600 D1.t = some (D1.r 0) := T1.rt
  have hsm := K.WF.smS C1.W (k := 0) (by omega)
  have SY := C1.X.S.sy _ hsm
  have hins := C1.W.ins _ hsm
  have f2 : h.fi 602 (L1.sa (V.sm A.g 0)) = I (A.g.ins (V.sm A.g 0)) := SY.ins
  refine ⟨fun v U => v = (if iP (inR x (A.g.ins (V.sm A.g 0))) = 0 then 4 else 0) ∧ U = h, brF (by rw [e5]; simp) ?_, ?_⟩
  · rw [e5, adr_some, e0, adr_some]
    refine ⟨nn_of rfl TT.tk, nn_of rfl (TT.nd 0 (by omega)).k, px_kind (h := h.srm 0 0) K.WF C1.W C1.X.S TT (by omega) (pu ⟨nn_of rfl SY.k, ?_⟩)⟩
    rw [adr_some, f2]
    exact px_isInR (h := h.srm 0 0) (m := A.g.ins (V.sm A.g 0)) (by omega) rfl (pu (fun m hm => ⟨hm, rfl⟩))
  rintro v U ⟨rfl, rfl⟩
  refine ⟨R.B.nn, qc0 R (fun h' R' c' s' => ?_)⟩
  by_cases hr : inR x (A.g.ins (V.sm A.g 0))
  rotate_left
  · rw [iP_neg hr] at R' ⊢
    rw [cif_neg hr, cif_neg hr] at hQ
    exact brT (by decide) (hQ h' R')
  rw [iP_pos hr] at R' ⊢
  rw [cif_pos hr, cif_pos hr] at hQ
  rw [if_neg (by decide)] at R'
  refine brF (by decide) ⟨R'.B.nn, ?_⟩
  obtain ⟨k, hk, e⟩ := hr
  subst e
  rw [I_ni (by omega)] at hQ
  obtain ⟨g, L, zz, hsh, D, i, B, tu, un, s, ga, v, TX⟩ := R'.ctx (X := X.ws 0) hg ht
  have T := TX.T
  have T0 := T.R.I.K.R
  have x5 : h'.fr 105 o = some D.t := T0.xt
  have x1 : h'.fr 1601 D.t = some ga := T.R.Gn.f
  have kga : h'.kd ga = (40, 4) := T.R.Gn.k
  have vga : h'.ai ga k = gv k := T.R.Gn.v k (by omega)
  rw [x5, adr_some, x1, adr_some, I_ni (by omega), vga]
  refine ⟨nn_of rfl T0.tk, ix_of rfl kga (by omega) (by decide), ix_of rfl kga (by omega) (by decide), ?_⟩
  intro h26 e26
  have n3 : ni 320 = 320 := by decide
  have r26 : h26.rc = h'.rc ∧ h26.rs = h'.rs := by rw [e26]; exact ⟨rfl, rfl⟩
  have F26 : Fr (fun f a => f = 0 ∧ a = ga) h'.c h26.c := by rw [e26]; exact (Fr.refl h'.c).sai _ _ (fun _ => ⟨rfl, rfl⟩)
  have z26 : h26.sz = h'.sz := by rw [e26]; rfl
  rw [show nl h26 320 = (¬ (320 : Int32) < 0 ∧ ni 320 ≤ 100000 ∧ nr h26 (ni 320)) from rfl, n3]
  refine ⟨⟨by decide, by decide, by omega, by omega⟩, ?_⟩
  intro h27 e27 m28 hm28
  have k27 : h27.kd h26.sz = (42, 320) := by rw [e27, new_kd, if_pos rfl]
  refine ⟨ix_of rfl k27 (by omega) (by decide), ?_⟩
  intro h30 e30
  have F27 : Fr (fun f a => f = 0 ∧ a = ga) h'.c h27.c := by rw [e27]; exact F26.new _ _ _
  have F30 : Fr (fun f a => f = 0 ∧ a = ga) h'.c h30.c := by rw [e30]; exact F27.sai _ _ (fun hh => absurd hh (by show ¬ h26.sz < h'.sz; omega))
  have z30 : h30.sz = h'.sz + 1 := by rw [e30, e27]; show h26.sz + 1 = _; omega
  have r30 : h30.rc = h'.rc - 1 ∧ h30.rs = h'.rs - 320 := by rw [e30, e27]; show h26.rc - 1 = _ ∧ h26.rs - 320 = _; omega
  have ngd : ga ≠ h26.sz := by have l : ga < h'.sz := T.R.Gn.l; omega
  have TR30 : TrR h30.c L D A.g V o := T0.keep F30 (fun f a hf hh => by omega) (fun hh => by omega) (fun hh => by omega) (fun hh => by
      have e := T0.rl.dk
      rw [hh.2, show h'.c.kd ga = (40, 4) from kga] at e
      exact absurd (Prod.mk.inj e).1 (by decide)) (fun j hj hh => by
      have e := (T0.nd j hj).ls.dk
      rw [hh.2, show h'.c.kd ga = (40, 4) from kga] at e
      exact absurd (Prod.mk.inj e).1 (by decide))
  have GN30 : GnR h30.c D ga (updN gv k y) := by
    refine ⟨by rw [F30.fr _ _ T0.tl (fun hh => by omega)]; exact T.R.Gn.f, by rw [F30.kd _ T.R.Gn.l]; exact T.R.Gn.k, Nat.lt_of_lt_of_le T.R.Gn.l F30.sz, fun j hj => ?_⟩
    show h30.ai ga j = _
    rw [e30, sai_ai, if_neg ngd, e27, new_ai, if_neg ngd, e26, sai_ai, if_pos rfl]
    by_cases ej : j = k
    · rw [ej, updN_same, updN_same]
    · rw [updN_ne _ _ ej, updN_ne _ _ ej]; exact T.R.Gn.v j hj
  have du30 : ∀ j, j < 8 * V.n → h30.ai h26.sz j = iP (gv k ≠ y ∧ j = k) := by
    intro j hj
    rw [e30, sai_ai, if_pos rfl, e27, new_ai, if_pos rfl]
    by_cases ej : j = k
    · rw [ej, updN_same, hm28]
      by_cases hy : gv k = y
      · rw [if_pos hy, iP_neg (fun hh => hh.1 hy)]; rfl
      · rw [if_neg hy, iP_pos ⟨hy, rfl⟩]; rfl
    · rw [updN_ne _ _ ej, iP_neg (fun hh => ej hh.2)]
  refine ⟨nn_of rfl TR30.xk, 12, 3533, ⟨by omega, by omega⟩, ?_⟩
  refine px_chg (h := h30.srm 12 3533) (V' := V) (gv' := updN gv k y) (due := fun i => gv k ≠ y ∧ i = k) R' hg ht K TX F30 (fun f a hh => .inl hh) K d0 rfl (fun _ => Iff.rfl) rfl TR30 GN30 (by show h30.kd h26.sz = _; rw [e30]; exact k27) (by show h26.sz < h30.sz; omega) du30 ?_ (Nat.le_refl _) (Nat.le_refl _) ?_
  · intro j hj hnd w
    unfold Tv.mk
    cases hrA : V.rA A.g j with
    | some q => rfl
    | none =>
      show gv (j % 8) = updN gv k y (j % 8)
      by_cases ej : j % 8 = k
      · rw [ej, updN_same]
        have hj8 : j / 8 = 0 := by
          unfold Tv.rA at hrA
          split at hrA
          · exact absurd hrA (by simp)
          · exact (K.WF.root _ hj.1).1 hrA
        have : j = k := by omega
        exact Classical.not_not.1 (fun hne => hnd ⟨hne, this⟩)
      · rw [updN_ne _ _ ej]
  · intro h9 R9 h10 e10
    refine hQ h10 ?_
    rw [e10]; exact R9
end
