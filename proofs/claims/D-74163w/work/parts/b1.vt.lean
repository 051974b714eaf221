/-! plain: vt -/
set_option maxRecDepth 100000
section
variable {h h0 : AH} {o jn tpa : Nat} {X : AX} {x y z u : Int32} {L : GA} {A : PG} {g : Nat} {ind : Nat → Int32} {Q : Int32 → AH → Prop} {V V' : Tv} {sz : Nat → Nat} {gv gv' : Nat → Int32}
variable {D : TA}

theorem Ex.run_own {own own' : Int32} {val : Nat → Int32} : ∀ {e : Ex}, Ex.isOwn e = false → ∀ st, Ex.run own val e st = Ex.run own' val e st
  | [], _, _ => rfl
  | (k, w) :: l, h, st => by
    have h1 : (decide (k = 1) || Ex.isOwn l) = false := h
    rw [Bool.or_eq_false_iff] at h1
    have hk : ¬ k = 1 := by simpa using h1.1
    have e1 : stp own val st (k, w) = stp own' val st (k, w) := by
      unfold stp
      simp only [hk, if_false]
    show Ex.run own val l (stp own val st (k, w)) = Ex.run own' val l (stp own' val st (k, w))
    rw [e1]
    exact Ex.run_own h1.2 _
theorem exOwn_iff : ∀ {e : Ex}, exOwn e ↔ Ex.isOwn e = true
  | [] => ⟨fun ⟨i, hi, _⟩ => absurd hi (Nat.not_lt_zero _), fun hh => absurd hh (by decide)⟩
  | (k, w) :: l => by
    show exOwn ((k, w) :: l) ↔ (decide (k = 1) || Ex.isOwn l) = true
    rw [Bool.or_eq_true, ← exOwn_iff, decide_eq_true_iff]
    constructor
    · rintro ⟨i, hi, e⟩
      cases i with
      | zero => exact .inl e
      | succ i => exact .inr ⟨i, by simpa using hi, e⟩
    · rintro (e | ⟨i, hi, e⟩)
      · exact ⟨0, by simp, e⟩
      · exact ⟨i + 1, by simpa using hi, e⟩
theorem Tv.wnu_mk (V : Tv) (k : Nat) (y : Int32) {j : Nat} {w : Vl} (hn : V.nu k = y ∨ ¬ V.ow A.g k j) : V.mk A.g gv j w = (V.wnu k y).mk A.g gv j w := by
  show V.mk A.g gv j w = match V.rA A.g j with
    | none => gv (j % 8)
    | some q => match A.g.rl (V.pd q) (V.oO A.g j) with
      | none => 0
      | some e => Ex.val (updN V.nu k y q) (fun o => w (8 * V.atP q (o / 8) + o % 8)) e
  unfold Tv.mk
  cases hr : V.rA A.g j with
  | none => rfl
  | some q =>
    dsimp only
    cases he : A.g.rl (V.pd q) (V.oO A.g j) with
    | none => rfl
    | some e =>
      dsimp only
      by_cases eq : q = k
      · subst eq
        rw [updN_same]
        rcases hn with hn | hn
        · rw [hn]
        · have hf : Ex.isOwn e = false := by
            cases ho : Ex.isOwn e with
            | false => rfl
            | true => exact absurd ⟨hr, e, he, exOwn_iff.2 ho⟩ hn
          unfold Ex.val
          rw [Ex.run_own hf]
      · rw [updN_ne _ _ eq]
theorem q_put (R : CRep h.c o jn tpa X) (hc : 40 ≤ h.rc) (hs : 5000 ≤ h.rs) (hQ : ∀ h', CRep h'.c o jn tpa (xPut X x y) → Q (qPut X x y) h') : wp_X0_put o x y h Q := by
  unfold wp_X0_put
  unfold xPut qPut at hQ
  refine px_isInR (h := h.srm 0 0) (m := 10000) (by decide) (by decide) (pu ⟨R.B.nn, px_whyNodeR (h := h.srm 0 0) R (pu ⟨R.B.nn, qc0 R (fun h' R' c' s' => ?_)⟩)⟩)
  by_cases hr : inR y 10000
  rotate_left
  · rw [cif_neg hr] at R' ⊢
    rw [cif_neg hr, cif_neg hr] at hQ
    exact brT (by decide) (hQ h' R')
  rw [cif_pos hr] at R' ⊢
  rw [cif_pos hr, cif_pos hr] at hQ
  cases ht : X.tr with
  | none =>
    rw [ht] at hQ
    rw [cif_neg (fun hh => hh ht)] at R'
    rw [cif_neg (fun hh => hh rfl)]
    exact brT (by decide) (hQ h' R')
  | some r =>
  obtain ⟨V, sz, gv⟩ := r
  rw [cif_pos (by rw [ht]; simp)] at R'
  rw [cif_pos (by simp)]
  obtain ⟨A, ind, hg, K⟩ := R.gt ht
  rw [ht, hg] at hQ
  dsimp only at hQ
  by_cases hI : inR x V.n
  rotate_left
  · rw [cif_neg (fun hh => hI ((okN_iff ht).1 hh))] at R' ⊢
    rw [cif_neg hI, cif_neg hI] at hQ
    exact brT (by decide) (hQ h' R')
  rw [cif_pos ((okN_iff ht).2 hI)] at R' ⊢
  rw [cif_pos hI, cif_pos hI] at hQ
  refine brF (by decide) ⟨R'.B.nn, ?_⟩
  have d0 : V.dp 0 = 0 := by
    obtain ⟨_, _, _, _, e⟩ := R.ok.t V sz gv ht
    exact e
  have n1 := K.n1
  have h40 := K.n40
  obtain ⟨k, hk, e⟩ := hI
  subst e
  obtain ⟨yu, hyu, ey⟩ := hr
  rw [I_ni (by omega)] at hQ
  obtain ⟨g, L, zz, hsh, D, i, B, tu, un, s, ga, v, TX⟩ := R'.ctx (X := X.ws 0) hg ht
  have C := TX.C.up TX.zs
  have T := TX.T
  have T0 := T.R.I.K.R
  have N := T0.nd k hk
  have x5 : h'.fr 105 o = some D.t := T0.xt
  have x2 : h'.fr 1602 D.t = some D.rl := T0.rw_
  have xn : h'.fi 1501 (D.r k) = V.nu k := N.nu
  rw [x5, adr_some, x2, adr_some]
  refine ⟨nn_of rfl T0.tk, nn_of rfl T0.rl.k, pc_get (h := h'.srm 0 0) T0.rl hk (pu ⟨.inr (nn_of rfl N.k), nn_of rfl N.k, ?_⟩)⟩
  rw [adr_some, xn]
  intro h20 e20
  have n3 : ni 320 = 320 := by decide
  have F20 : Fr (fun f a => f = 1501 ∧ a = D.r k) h'.c h20.c := by rw [e20]; exact (Fr.refl h'.c).sfi _ (fun _ => ⟨rfl, rfl⟩)
  have z20 : h20.sz = h'.sz := by rw [e20]; rfl
  have r20 : h20.rc = h'.rc ∧ h20.rs = h'.rs := by rw [e20]; exact ⟨rfl, rfl⟩
  rw [show nl h20 320 = (¬ (320 : Int32) < 0 ∧ ni 320 ≤ 100000 ∧ nr h20 (ni 320)) from rfl, n3]
  refine ⟨⟨by decide, by decide, by omega, by omega⟩, ?_⟩
  intro h21 e21
  have F21 : Fr (fun f a => f = 1501 ∧ a = D.r k) h'.c h21.c := by rw [e21]; exact F20.new _ _ _
  have k21 : h21.kd h20.sz = (42, 320) := by rw [e21, new_kd, if_pos rfl]
  have hk15 : D.r k < h'.sz := N.l
  -- what stays
  have TRU : ∀ {U : AH}, Fr (fun f a => f = 1501 ∧ a = D.r k) h'.c U.c → U.fi 1501 (D.r k) = y → TrR U.c L D A.g (V.wnu k y) o := by
    intro U F eu
    refine ⟨by rw [F.kd _ T0.xl]; exact T0.xk, Nat.lt_of_lt_of_le T0.xl F.sz, by rw [F.fr _ _ T0.xl (fun hh => by omega)]; exact T0.xt, by rw [F.kd _ T0.tl]; exact T0.tk, Nat.lt_of_lt_of_le T0.tl F.sz, by rw [F.fr _ _ T0.tl (fun hh => by omega)]; exact T0.rw_, T0.rl.keep F (fun hh => by omega) (fun hh => by omega) (fun hh => by omega), fun j hj => ?_⟩
    have Nj := T0.nd j hj
    refine ⟨by rw [F.kd _ Nj.l]; exact Nj.k, Nat.lt_of_lt_of_le Nj.l F.sz, by rw [F.fr _ _ Nj.l (fun hh => by omega)]; exact Nj.p, ?_, by rw [F.fi _ _ Nj.l (fun hh => by omega)]; exact Nj.ix, by rw [F.fi _ _ Nj.l (fun hh => by omega)]; exact Nj.dp, by rw [F.fr _ _ Nj.l (fun hh => by omega)]; exact Nj.pa, fun hh => by rw [F.fi _ _ Nj.l (fun hh => by omega)]; exact Nj.pl hh, by rw [F.fr _ _ Nj.l (fun hh => by omega)]; exact Nj.ch, Nj.ls.keep F (fun hh => by omega) (fun hh => by omega) (fun hh => by omega), by rw [F.fr _ _ Nj.l (fun hh => by omega)]; exact Nj.va, by rw [F.kd _ Nj.vl]; exact Nj.vk, Nat.lt_of_lt_of_le Nj.vl F.sz⟩
    show U.c.fi 1501 (D.r j) = updN V.nu k y j
    by_cases ej : j = k
    · rw [ej, updN_same]; exact eu
    · rw [updN_ne _ _ ej, F.fi _ _ Nj.l (fun hh => ej ((T.ij j k hj hk).1 hh.2))]; exact Nj.nu
  have K' : trK A (V.wnu k y) sz := by rw [ey]; exact K.wnu k hyu
  have WF' := K'.WF
  refine xlp_cnt (8 * V.n) (fun j s U => s = I j ∧ Fr (fun f a => f = 1501 ∧ a = D.r k) h'.c U.c ∧ U.kd h20.sz = (42, 320) ∧ U.fi 1501 (D.r k) = y ∧ (∀ m, m < j → U.ai h20.sz m = iP (V.nu k ≠ y ∧ V.is A.g m ∧ V.ow A.g k m)) ∧ U.sz = h'.sz + 1 ∧ U.rc = h'.rc - 1 ∧ U.rs = h'.rs - 320)
    ⟨rfl, F21, k21, by rw [e21, new_fi, if_neg (by omega), e20, sfi_same], fun m hm => absurd hm (Nat.not_lt_zero _), by rw [e21]; show h20.sz + 1 = _; omega, by rw [e21]; show h20.rc - 1 = _; omega, by rw [e21]; show h20.rs - 320 = _; omega⟩ ?_
  rintro j s9 U KK hj ⟨rfl, F, kU, yU, aU, zU, cU, sU⟩ hK
  have TR := TRU F yU
  have J0 := T.R.I.K.J
  have JU : InO U.c i o := ⟨by rw [F.kd _ J0.l]; exact J0.k, Nat.lt_of_lt_of_le J0.l F.sz, by rw [F.fr _ _ J0.l (fun hh => by omega)]; exact J0.mx⟩
  have x6 : U.fr 106 o = some i := (F.fr _ _ T0.xl (fun hh => by omega)).trans T.fi
  have fm : U.fi 1700 i = I (8 * V.n) := (F.fi _ _ J0.l (fun hh => by omega)).trans T.R.I.m
  have CU := C.keep F (fun f a hh => .inl (by omega))
  rw [x6, adr_some, fm]
  refine ⟨nn_of rfl TR.xk, nn_of rfl JU.k, ?_⟩
  by_cases ej : j = 8 * V.n
  · subst ej
    refine brT ((I_le (by omega) (by omega)).2 (Nat.le_refl _)) ⟨12, 3533, ⟨by omega, by omega⟩, ?_⟩
    have GN : GnR U.c D ga gv := ⟨by rw [F.fr _ _ T0.tl (fun hh => by omega)]; exact T.R.Gn.f, by rw [F.kd _ T.R.Gn.l]; exact T.R.Gn.k, Nat.lt_of_lt_of_le T.R.Gn.l F.sz, fun j hj => by rw [F.ai _ T.R.Gn.l (fun hh => by omega)]; exact T.R.Gn.v j hj⟩
    refine px_chg (h := U.srm 12 3533) (V' := V.wnu k y) (gv' := gv) (due := fun m => V.nu k ≠ y ∧ V.is A.g m ∧ V.ow A.g k m) R' hg ht K TX F (fun f a hh => .inr hh.1) K' d0 rfl (fun _ => Iff.rfl) rfl TR GN kU (by show h20.sz < U.sz; omega) aU ?_ (Nat.le_refl _) (Nat.le_refl _) ?_
    · intro m hm hnd w
      refine V.wnu_mk k y ?_
      by_cases hy : V.nu k = y
      · exact .inl hy
      · exact .inr (fun ho => hnd ⟨hy, hm, ho⟩)
    · intro h9 R9 h10 e10
      refine hQ h10 ?_
      rw [e10]; exact R9
  have hjl : j < 8 * V.n := by omega
  have put : ∀ {U9 : AH} {m : Int32}, U9 = U → m = iP (V.nu k ≠ y ∧ V.is A.g j ∧ V.ow A.g k j) → ix U9 (some h20.sz) 42 (I j) ∧ ∀ h34, h34 = U9.sai h20.sz (ni (I j)) (vp_nar .boolean m) → KK (I j + 1) h34 := by
    intro U9 m eU em
    subst eU
    refine ⟨ix_of rfl kU (by omega) (by decide), ?_⟩
    intro h34 e34
    rw [I_ni (by omega), em, iP_nar] at e34
    have nz : h20.sz ≠ D.r k := by omega
    refine hK _ _ hjl ⟨I_add j 1, by rw [e34]; exact F.sai _ _ (fun hh => absurd hh (by show ¬ h20.sz < h'.sz; omega)), by rw [e34]; exact kU, by rw [e34]; exact yU, fun m hm => ?_, by rw [e34]; exact zU, by rw [e34]; exact cU, by rw [e34]; exact sU⟩
    rw [e34, sai_ai, if_pos rfl]
    by_cases em : m = j
    · rw [em, updN_same]
    · rw [updN_ne _ _ em]; exact aU m (by omega)
  refine brF (fun hh => by have := (I_le (by omega) (by omega)).1 hh; omega) ?_
  by_cases hy : V.nu k = y
  · exact brT hy (put rfl (iP_neg (fun hh => hh.1 hy)).symm)
  refine brF hy (px_is (h := U.srm 0 0) CU.W WF' CU.X.S TR JU hjl (pu ?_))
  by_cases his : V.is A.g j
  rotate_left
  · rw [if_neg (show ¬ (V.wnu k y).is A.g j from his)]
    exact brT rfl (put rfl (iP_neg (fun hh => his hh.2.1)).symm)
  rw [if_pos (show (V.wnu k y).is A.g j from his)]
  refine brF (by decide) ⟨nn_of rfl TR.xk, ?_⟩
  rw [x6, adr_some]
  refine ⟨nn_of rfl JU.k, px_ruleAt (h := U.srm 0 0) CU.W WF' CU.X.S TR JU hjl (pu ?_)⟩
  have eRA : (V.wnu k y).rA A.g j = V.rA A.g j := rfl
  rw [eRA]
  by_cases hra : V.rA A.g j = some k
  rotate_left
  · refine brF (fun hh => ?_) (put rfl (iP_neg (fun hh => hra hh.2.2.1)).symm)
    cases hq : V.rA A.g j with
    | none => rw [hq] at hh; exact absurd hh (by simp)
    | some q =>
      rw [hq] at hh hra
      have hql := K.WF.rAlt his.1 hq
      exact hra (by rw [(T.ij q k hql hk).1 (Option.some.inj hh)])
  · refine brT (by rw [hra]; rfl) ⟨nn_of rfl (TR.nd k hk).k, ?_⟩
    have p0 : U.fr 1500 (D.r k) = some (L.pa (V.pd k)) := (TR.nd k hk).p
    have hpd := K.WF.pd k hk
    rw [p0, adr_some, x6, adr_some]
    obtain ⟨w1, w2, w3⟩ := CU.U.w _ hpd
    have w1' : U.fr 704 (L.pa (V.pd k)) = some (L.po (V.pd k)) := w1
    have w2' : U.kd (L.po (V.pd k)) = (42, 32) := w2
    refine ⟨nn_of rfl (CU.X.S.pr _ hpd).k, nn_of rfl TR.xk, nn_of rfl JU.k, px_occOf (h := U.srm 0 0) CU.W WF' CU.X.S TR JU hjl (q := k) hra (pu ?_)⟩
    have ho32 : V.oO A.g j < 32 := by
      have := (K.WF.oOlt C.W his hra).1
      exact this.1
    rw [w1', show (V.wnu k y).oO A.g j = V.oO A.g j from rfl]
    refine ⟨ix_of rfl w2' ho32 (by decide), ?_⟩
    rw [adr_some, I_ni (by omega), show U.ai (L.po (V.pd k)) (V.oO A.g j) = _ from CU.U.v _ _ hpd ho32]
    intro m hm
    refine put rfl ?_
    rw [hm]
    cases he : A.g.rl (V.pd k) (V.oO A.g j) with
    | none =>
      dsimp only
      rw [if_pos (by decide), iP_neg]
      rintro ⟨_, _, _, e, h1, _⟩
      rw [he] at h1; exact absurd h1 (by simp)
    | some e =>
      dsimp only
      by_cases ho : Ex.isOwn e = true
      · rw [if_pos ho, if_neg (by decide), iP_pos ⟨hy, his, hra, e, he, exOwn_iff.2 ho⟩]
      · rw [if_neg ho, if_pos rfl, iP_neg]
        rintro ⟨_, _, _, e', h1, h2⟩
        rw [he] at h1
        have := Option.some.inj h1
        subst this
        exact ho (exOwn_iff.1 h2)
end
