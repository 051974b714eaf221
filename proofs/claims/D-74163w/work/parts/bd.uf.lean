/-! plain: uf -/
set_option maxRecDepth 100000
section
variable {h : AH} {o jn tpa : Nat} {X : AX} {x : Int32} {L : GA} {A : PG} {g : Nat} {ind : Nat → Int32} {Q : Int32 → AH → Prop} {V : Tv} {sz : Nat → Nat} {lp : Nat → List Int32}

/-- plans of a grammar that has them. -/
theorem CgR.plans {c : HC} (C : CgR c L A g ind) (hb : A.g.blkP ind = none) : ∃ lp, RnP A.g ind lp ∧ ∀ p, p < A.g.nP → ∀ i, i < (lp p).length → c.ai (L.pp p) i = (lp p).getD i 0 := by
  have W := C.W
  have ex : ∀ p, ∃ x : PSt, p < A.g.nP → A.g.IsPl ind p x ∧ x.2.2.2.length ≤ 68 ∧ ∀ i, i < x.2.2.2.length → c.ai (L.pp p) i = x.2.2.2.getD i 0 := by
    intro p
    by_cases hp : p < A.g.nP
    · obtain ⟨x, x1, x2, _, x4⟩ := C.F.pl hb p hp
      exact ⟨x, fun _ => ⟨x1, x2, x4⟩⟩
    · exact ⟨A.g.pl0 ind p, fun hh => absurd hh hp⟩
  obtain ⟨f, hf⟩ := Classical.axiomOfChoice ex
  have hB : ∀ p, p < A.g.nP → ∀ k, k ≤ A.g.kn p → A.g.VB ind (A.g.sy p k) := fun p hp k hk => C.I.vb W (W.sy p k hp hk) (noBlk W hb hp hk)
  have hac : ∀ p, p < A.g.nP → fself (clo (A.g.rV ind p)) = none := fun p hp => by
    have := fstN_none.1 hb p hp
    simp only [Bool.or_eq_false_iff] at this
    cases hh : fself (clo (A.g.rV ind p)) with
    | none => rfl
    | some k => rw [hh] at this; exact absurd this.2 (by simp)
  have all := fun p (hp : p < A.g.nP) => (hf p hp).1.all W hp (hac p hp) (hB p hp)
  have hvs : ∀ p, p < A.g.nP → A.g.vs ind (A.g.sy p 0) < 100 := fun p hp => by
    have h1 := (all p hp).2.2.1
    have h2 : pcn isMk (f p).2.2.2 ≤ (f p).2.2.2.length := List.length_filter_le _ _
    have h3 := (hf p hp).2.1
    omega
  refine ⟨fun p => (f p).2.2.2, ⟨fun p hp => (all p hp).1, fun p c hp h1 h2 => (all p hp).2.1 c h1 h2, fun p hp => (all p hp).2.2.1, fun p hp => ?_, fun p w hp hw => (hf p hp).1.cds W hp (hB p hp) w hw, fun p hp => (hf p hp).2.1⟩, fun p hp => (hf p hp).2.2⟩
  obtain ⟨l, hl⟩ := (all p hp).2.2.2
  exact ⟨l, _, hl, (cd_m (hvs p hp)).1⟩
/-- at the end all plans are past. -/
theorem rn_end (W : A.g.WF) (K : trK A V sz) (PL : RnP A.g ind lp) {cu : Nat → Nat} (M : RnL V A.g lp cu 0 (0 + sz 0)) (h0 : rnM V lp isMk 0 (cu 0) = A.g.vs ind (V.sm A.g 0)) : rnTt V lp isMk cu = sN (fun k => A.g.vs ind (V.sm A.g k)) V.n ∧ rnTt V lp isRl cu = sN (fun k => cnP (fun i => A.g.tl (V.pd k) i) 32) V.n := by
  have WF := K.WF
  have s0 := K.s0
  have key : ∀ m j, j < m → j < V.n → rnM V lp isMk j (cu j) = A.g.vs ind (V.sm A.g j) ∧ (lp (V.pd j)).take (cu j) = lp (V.pd j) := by
    intro m
    induction m with
    | zero => intro j hj; omega
    | succ m ih =>
      intro j hj hn
      have hp := WF.pd j hn
      have fin : rnM V lp isMk j (cu j) = A.g.vs ind (V.sm A.g j) → rnM V lp isMk j (cu j) = A.g.vs ind (V.sm A.g j) ∧ (lp (V.pd j)).take (cu j) = lp (V.pd j) := fun e => by
        obtain ⟨l, w, e1, e2⟩ := PL.la _ hp
        have e3 : pcn isMk ((lp (V.pd j)).take (cu j)) = pcn isMk (lp (V.pd j)) := by
          rw [PL.mk _ hp]; exact e
        exact ⟨e, List.take_of_length_le (pcn_full e1 e2 e3)⟩
      rcases Nat.eq_zero_or_pos j with e | e
      · subst e
        exact fin h0
      · obtain ⟨q, p1, p2, p3, p4, p5, p6⟩ := K.pr j e hn
        have p1' : V.pa j = some q := p1
        have p3' : q < j := p3
        have p4' : 1 ≤ V.pl j := p4
        have p5' : V.pl j ≤ A.g.kn (V.pd q) := p5
        have p6' : V.kd q (V.pl j) = j := p6
        have hq := ih q (by omega) (by omega)
        have rel := M.r q (V.pl j) (Nat.zero_le _) (by omega) p4' p5'
        rw [p6'] at rel
        refine fin ?_
        rw [rel]
        unfold rnM
        rw [hq.2, PL.ch _ _ (WF.pd q (by omega)) p4' p5']
        have := (K.kid (i := q) (j := V.pl j) (by omega) p4' p5').2.2.2.2.2.1
        rw [p6'] at this
        rw [← this]
        rfl
  refine ⟨sN_congr (fun j hj => (key (j + 1) j (Nat.lt_succ_self _) hj).1), sN_congr (fun j hj => ?_)⟩
  show pcn isRl ((lp (V.pd j)).take (cu j)) = _
  rw [(key (j + 1) j (Nat.lt_succ_self _) hj).2, PL.rl _ (WF.pd j hj)]
theorem q_run (R : CRep h.c o jn tpa X) (hc : 40 ≤ h.rc) (hs : 2000 ≤ h.rs) (hQ : ∀ h', CRep h'.c o jn tpa (X.ws (qRun X x).2) → Q (qRun X x).1 h') : wp_X0_run o x h Q := by
  unfold wp_X0_run
  refine px_isInR (h := h.srm 0 0) (m := 2) (by decide) (by decide) (pu ?_)
  unfold qRun at hQ
  by_cases hr : inR x 2
  rotate_left
  · rw [iP_neg hr]
    rw [cif_neg hr] at hQ
    refine ⟨fun v U => v = 1 ∧ U = h, brT rfl ⟨rfl, rfl⟩, ?_⟩
    rintro v U ⟨rfl, rfl⟩
    exact ⟨R.B.nn, qc0 R (fun h' R' _ _ => brT (by decide) (hQ h' R'))⟩
  rw [iP_pos hr]
  rw [cif_pos hr] at hQ
  cases ht : X.tr with
  | none =>
    rw [ht] at hQ
    refine ⟨fun v U => v = 3 ∧ U = h, brF (by decide) ⟨R.B.nn, brT (R.t0 ht) ⟨rfl, rfl⟩⟩, ?_⟩
    rintro v U ⟨rfl, rfl⟩
    have hQ' : ∀ h' : AH, CRep h'.c o jn tpa (X.ws 3) → Q (-1) h' := by
      cases hg : X.gr with
      | none => rw [hg] at hQ; exact hQ
      | some q => rw [hg] at hQ; exact hQ
    exact ⟨R.B.nn, qc0 R (fun h' R' _ _ => brT (by decide) (hQ' h' R'))⟩
  | some q =>
    obtain ⟨V, sz, gv⟩ := q
    obtain ⟨A, ind, hg, K⟩ := R.gt ht
    rw [hg, ht] at hQ
    dsimp only at hQ
    obtain ⟨g0, L0, z0, D0, _, _, _, _, _, _, _, a10, C00, T0⟩ := R.tx hg ht
    have e5 : h.fr 105 o = some D0.t := T0.R.I.K.R.xt
    have e3 : h.fr 103 o = some g0 := a10
    have ebl : h.fi 402 g0 = oI (A.g.blkP ind) := C00.F.bl
    have hif : (if h.fi 402 g0 < 0 then (0 : Int32) else 5) = (match A.g.blkP ind with | none => 0 | some _ => 5) := by
      rw [ebl]
      cases hb : A.g.blkP ind with
      | none => exact if_pos (by decide)
      | some p =>
        have := blkP_lt hb
        have := C00.W.nP
        exact if_neg (I_nonneg (by omega))
    refine ⟨fun v U => v = (match A.g.blkP ind with | none => 0 | some _ => 5) ∧ U = h, brF (by decide) ⟨R.B.nn, brF (by rw [e5]; simp) ?_⟩, ?_⟩
    · rw [e3, adr_some, hif]
      exact ⟨nn_of rfl C00.X.O.k, fun m hm => ⟨hm, rfl⟩⟩
    rintro v U ⟨rfl, rfl⟩
    cases hb : A.g.blkP ind with
    | some p =>
      rw [hb] at hQ
      exact ⟨R.B.nn, qc0 R (fun h' R' _ _ => brT rfl (hQ h' R'))⟩
    | none =>
      rw [hb] at hQ
      dsimp only at hQ ⊢
      refine ⟨R.B.nn, qc0 R (fun h' R' c' s' => brF (by decide) ⟨⟨by omega, by omega⟩, ?_⟩)⟩
      obtain ⟨g, L, z, D, i, B, tu, un, s, ga, v, a1, C, T⟩ := R'.tx (X := X.ws 0) hg ht
      have TT := T.R.I.K.R
      have WF := K.WF
      have h40 := K.n40
      have n1 := K.n1
      have s0 := K.s0
      obtain ⟨lp, PL, pl⟩ := C.plans hb
      intro h20 e20
      obtain ⟨r, er⟩ : ∃ r, r = h'.sz := ⟨_, rfl⟩
      rw [← er]
      have F20 : Fr W0 h'.c h20.c := by rw [e20]; exact (Fr.refl _).new _ _ _
      have k20 : (h20.kd r).1 = 18 := by rw [e20, er]; show (if h'.sz = h'.sz then (18, 0) else _ : Nat × Nat).1 = 18; rw [if_pos rfl]
      have z20 : h20.sz = r + 1 := by rw [e20, er]; rfl
      have c20 : h20.rc = h'.rc - 1 := by rw [e20]; rfl
      have s20 : h20.rs = h'.rs - 4 := by rw [e20]; rfl
      have i20 : ∀ f, h20.fi f r = 0 := fun f => by rw [e20, er]; exact if_pos rfl
      refine ⟨1, 40, ⟨by omega, by omega⟩, ?_⟩
      unfold wp_X18_init
      refine ⟨nn_of rfl k20, ?_⟩
      intro h2 e2
      have F2 : Fr W0 h'.c h2.c := by rw [e2]; exact Fr.sfr (h := h20.srm 1 40) F20 _ (fun hh => by have h9 : r < h'.sz := hh; omega)
      have z2 : h2.sz = r + 1 := by rw [e2]; exact z20
      refine ⟨⟨by decide, by decide, by rw [e2]; exact Nat.le_refl 1, by rw [e2]; exact Nat.le_refl 40⟩, ?_⟩
      rw [show ni 40 = 40 from rfl, z2]
      intro h3 e3'
      have F3 : Fr W0 h'.c h3.c := by rw [e3']; exact F2.new _ _ _
      have k3 : (h3.kd r).1 = 18 := by rw [e3']; show (if r = h2.sz then (40, 40) else h2.kd r : Nat × Nat).1 = 18; rw [if_neg (by omega), e2]; exact k20
      refine ⟨nn_of rfl k3, ?_⟩
      intro h5 e5' h23 e23
      have F5 : Fr W0 h'.c h5.c := by rw [e5']; exact F3.sfr _ (fun hh => by have h9 : r < h'.sz := hh; omega)
      have F23 : Fr W0 h'.c h23.c := by rw [e23]; exact F5
      have i3 : ∀ f, h3.fi f r = 0 := fun f => by
        rw [e3']
        show (if r = h2.sz then 0 else h2.fi f r) = 0
        rw [if_neg (by omega), e2]
        exact i20 f
      have R23 : RnR h23.c V r (fun _ => 0) 0 0 := by
        refine ⟨by rw [e23, e5']; exact k3, ?_, ?_, ?_, fun j hj => ?_, ?_, ?_⟩
        · rw [e23, e5', e3']; show r + 1 < h2.sz + 1; omega
        · rw [e23]; show h5.fr 1800 r = _; rw [e5']; exact sfr_same _ _ _ _
        · rw [e23, e5', e3']; show (if r + 1 = h2.sz then (40, 40) else h2.kd (r + 1)) = _; rw [if_pos z2.symm]
        · rw [e23, e5', e3']; show (h2.new 40 40 40).ai (r + 1) j = _; rw [new_ai, if_pos z2.symm]; rfl
        · rw [e23, e5']; exact i3 1801
        · rw [e23, e5']; exact i3 1802
      have z23 : h23.sz = r + 2 := by rw [e23, e5', e3']; show h2.sz + 1 = _; omega
      have T0 : ∀ P, rnTt V lp P (fun _ => 0) = 0 := fun P => by
        unfold rnTt
        have : ∀ n, sN (fun j => rnM V lp P j ((fun _ => 0) j)) n = 0 := by
          intro n
          induction n with
          | zero => rfl
          | succ n ih => show sN _ n + rnM V lp P n 0 = 0; rw [ih]; rfl
        exact this V.n
      have M0 : RnL V A.g lp (fun _ => 0) 0 (0 + sz 0) := ⟨fun q _ _ => Nat.zero_le _, fun q c _ _ _ _ => rfl⟩
      have hp0 := WF.pd 0 (by omega)
      have hsm := WF.smS C.W (show 0 < V.n by omega)
      have hns : A.g.self ind (V.sm A.g 0) = false := noBlk C.W hb hp0 (Nat.zero_le _)
      have hvs : A.g.vs ind (V.sm A.g 0) < 1000 := by
        have e1 := PL.mk _ hp0
        have e2 := PL.ln _ hp0
        have e3 : pcn isMk (lp (V.pd 0)) ≤ (lp (V.pd 0)).length := List.length_filter_le _ _
        have e4 : V.sm A.g 0 = A.g.sy (V.pd 0) 0 := rfl
        rw [e4]; omega
      refine xlp_cnt (A.g.vs ind (V.sm A.g 0)) (fun m q U => q = I m ∧ ∃ cu, Fr W0 h'.c U.c ∧ (∃ nv, RnR U.c V r cu nv (rnTt V lp isRl cu) ∧ nv = rnTt V lp isMk cu + 0) ∧ RnL V A.g lp cu 0 (0 + sz 0) ∧ rnM V lp isMk 0 (cu 0) = m) ⟨rfl, fun _ => 0, F23, ⟨0, by rw [T0]; exact R23, by rw [T0]⟩, M0, rfl⟩ ?_
      rintro m q U KK hm ⟨eq, cu, F, ⟨nv, RR, env⟩, M, em⟩ hK
      have CU := C.keep F (fun _ _ hh => hh.elim)
      have TU := TT.w0 F
      have RU : CRep U.c o jn tpa (X.ws 0) := R'.w0 F
      have e5U : U.fr 105 o = some D.t := TU.xt
      have ert : U.fr 1600 D.t = some (D.r 0) := by
        have : U.fr 1600 D.t = h'.fr 1600 D.t := F.fr _ _ TT.tl id
        rw [this]; exact T.rt
      have SY := CU.X.S.sy _ hsm
      have e605 : U.fi 605 (L.sa (V.sm A.g 0)) = I (A.g.vs ind (V.sm A.g 0)) := by
        have := (CU.F.vis _ hsm).n
        rw [hns, if_neg (by simp)] at this
        exact this
      rw [eq, e5U, adr_some, ert, adr_some]
      refine ⟨RU.B.nn, nn_of rfl TU.tk, nn_of rfl (TU.nd 0 (by omega)).k, px_kind (h := U.srm 0 0) WF CU.W CU.X.S TU (by omega) (pu ⟨nn_of rfl SY.k, ?_⟩)⟩
      rw [adr_some, e605]
      by_cases e : m = A.g.vs ind (V.sm A.g 0)
      · refine brT (by rw [e]; exact (I_le (by omega) (by omega)).2 (Nat.le_refl _)) ?_
        obtain ⟨q1, q2⟩ := rn_end CU.W K PL M (em.trans e)
        have v1 : U.fi 1801 r = I (sN (fun k => A.g.vs ind (V.sm A.g k)) V.n) := by
          have := RR.vi
          rw [env, q1] at this
          exact this
        have v2 : U.fi 1802 r = I (sN (fun k => cnP (fun i => A.g.tl (V.pd k) i) 32) V.n) := by
          have := RR.ru
          rw [q2] at this
          exact this
        rw [v1, v2]
        by_cases e0 : x = 0
        · rw [if_pos e0] at hQ
          exact brT e0 ⟨nn_of rfl RR.k, hQ U RU⟩
        · rw [if_neg e0] at hQ
          exact brF e0 ⟨nn_of rfl RR.k, hQ U RU⟩
      · refine brF (fun hh => by have := (I_le (by omega) (by omega)).1 hh; omega) ⟨RU.B.nn, nn_of TU.xt TU.tk, nn_of rfl RR.k, ?_⟩
        rw [show U.fr 105 o = some D.t from TU.xt, adr_some, ert]
        refine px_goes18 K C TT (x := r) (by rw [er]; exact Nat.le_refl _) PL pl 15 0 (U.srm 0 0) cu 0 _ (by omega) (by omega) F ⟨nv, RR, env⟩ M (by omega) ?_
        intro h2' cu' F' z' c'' r'' hR' M' m' _ h45 e45
        refine hK _ _ (by omega) ⟨I_add m 1, cu', by rw [e45]; exact F', by rw [e45]; exact hR', M', by omega⟩
end
