/-! plain: vr -/
set_option maxRecDepth 100000
section
variable {h : AH} {o jn tpa : Nat} {X : AX} {x y z u : Int32} {L : GA} {A : PG} {g : Nat} {ind : Nat → Int32} {Q : Int32 → AH → Prop} {V V' : Tv} {sz : Nat → Nat} {gv gv' : Nat → Int32}
variable {D : TA}

theorem px_themselves (hc : 1 ≤ h.rc) (hs : 320 ≤ h.rs) {P : Option Nat → AH → Prop} (hP : ∀ h', Fr W0 h.c h'.c → h'.kd h.sz = (40, 320) → (∀ i, i < 320 → h'.ai h.sz i = I i) → h'.sz = h.sz + 1 → h'.rc = h.rc - 1 → h'.rs = h.rs - 320 → P (some h.sz) h') : wp_X0_themselves o h P := by
  unfold wp_X0_themselves
  have n3 : ni 320 = 320 := by decide
  rw [show nl h 320 = (¬ (320 : Int32) < 0 ∧ ni 320 ≤ 100000 ∧ nr h (ni 320)) from rfl, n3]
  refine ⟨⟨by decide, by decide, hc, hs⟩, ?_⟩
  intro h1 e1
  have F1 : Fr W0 h.c h1.c := by rw [e1]; exact (Fr.refl h.c).new _ _ _
  refine xlp_cnt 320 (fun i s U => s = I i ∧ Fr W0 h.c U.c ∧ U.kd h.sz = (40, 320) ∧ (∀ j, j < i → U.ai h.sz j = I j) ∧ U.sz = h.sz + 1 ∧ U.rc = h.rc - 1 ∧ U.rs = h.rs - 320) ⟨rfl, F1, by rw [e1, new_kd, if_pos rfl], fun j hj => absurd hj (Nat.not_lt_zero _), by rw [e1]; rfl, by rw [e1]; rfl, by rw [e1]; rfl⟩ ?_
  rintro i s U K hi ⟨rfl, F, k1, a1, z1, c1, c2⟩ hK
  by_cases ei : i = 320
  · subst ei
    exact brT (by decide) (hP U F k1 a1 z1 c1 c2)
  · refine brF (by (first | omega | ((try simp (disch := omega) only [L_le, le_L, L_lt, lt_L, eq_L, L_eq, I_le, I_lt, I_eq, I_ni, add_L, L_add, I_add, mul_L, L_mul, I_mul, sub_L, L_sub, I_sub, div_L, rem_L]); done) | ((try simp (disch := omega) only [L_le, le_L, L_lt, lt_L, eq_L, L_eq, I_le, I_lt, I_eq, I_ni, add_L, L_add, I_add, mul_L, L_mul, I_mul, sub_L, L_sub, I_sub, div_L, rem_L]); omega))) ⟨ix_of rfl k1 (by omega) (by decide), ?_⟩
    rw [I_ni (by omega)]
    intro h5 e5
    refine hK _ _ (by omega) ⟨I_add i 1, by rw [e5]; exact F.sai _ _ (fun hh => absurd hh (Nat.lt_irrefl _)), by rw [e5]; exact k1, fun j hj => ?_, by rw [e5]; exact z1, by rw [e5]; exact c1, by rw [e5]; exact c2⟩
    rw [e5, sai_ai, if_pos rfl]
    by_cases ej : j = i
    · rw [ej, updN_same]
    · rw [updN_ne _ _ ej]; exact a1 j (by omega)
/-- a change of what is given or put: all is reckoned anew that is due. -/
theorem px_changes (ok : X.OK) (B0 : CbR h.c o jn tpa) (Y0 : CtR h.c o tpa (X.ws 0)) (Z0 : CoR h.c) (J0 : NzJ h.c) (I0 : CsI h.c) (hg : X.gr = some (A, ind)) {zz : Nat} {hsh : Option (Nat × Nat)} (f3 : h.c.fr 103 o = some g) (zl : h.c.lo ≤ zz) (zs : zz ≤ h.c.sz) (C : CgR (h.c.cut zz) L A g ind) (f4 : h.c.fr 104 o = hsh.map Prod.fst) (H : ∀ x sm, hsh = some (x, sm) → ShR h.c x sm A.g)
    (K : trK A V sz) (K' : trK A V' sz) (d0 : V'.dp 0 = 0) (en : V'.n = V.n) (eis : ∀ i, V'.is A.g i ↔ V.is A.g i) (eed : V'.ed A.g = V.ed A.g)
    (TR : TrR h.c L D A.g V' o) {ga : Nat} (GN : GnR h.c D ga gv') {i0 : Nat} {B : IA} {tu un : Nat} {s : TjS} {v : Vl} (HR : ∀ tu' un', h.sz ≤ tu' → h.sz ≤ un' → HadR h.c i0 B.kn tu un tu' un') (F0 : KnF (V.is A.g) (V.ed A.g) s) (hkn : ∀ i, i < 8 * V.n → h.c.ai B.kn i = oI (s.kn i)) (Va : VaR h.c D V' v) (N : KnV (istO A.g V gv) s v (h.c.ai tu) (h.c.ai un) s.kts)
    (x6 : h.fr 106 o = some i0) (dv : VaD D V') (ij : ∀ j k, j < V'.n → k < V'.n → (D.r j = D.r k → j = k) ∧ (D.cl j = D.cl k → j = k) ∧ (D.cd j = D.cd k → j = k)) (rt : h.c.fr 1600 D.t = some (D.r 0)) (rn : ∀ k, k < V'.n → D.cl k ≠ D.rl ∧ D.cd k ≠ D.rd) (rm : 1 ≤ D.rm) (z1 : ∀ k, k < V'.n → zz ≤ D.r k ∧ zz ≤ D.cl k ∧ zz ≤ D.cd k ∧ zz ≤ D.va k) (z2 : zz ≤ D.t ∧ zz ≤ D.rl ∧ zz ≤ D.rd ∧ zz ≤ ga) (hsm : ∀ x sm, hsh = some (x, sm) → ∀ k, k < V'.n → D.va k ≠ sm)
    {du : Nat} {due : Nat → Prop} (kdu : h.kd du = (42, 320)) (ldu : du < h.sz) (vdu : ∀ i, i < 8 * V'.n → h.ai du i = iP (due i)) (hF : ∀ j, V.is A.g j → ¬ due j → ∀ w, V.mk A.g gv j w = V'.mk A.g gv' j w)
    (hc : 12 ≤ h.rc) (hs : 3533 ≤ h.rs) {P : AH → Prop} (hP : ∀ h', CRep h'.c o jn tpa (X.cg A V' sz gv' due (fun _ => False) v) → P h') : wp_X0_changes o (some du) h P := by
  have n1 := K'.n1
  have h40 := K'.n40
  have ol : o < h.sz := B0.l
  have CH := C.up zs
  have WF' := K'.WF
  unfold wp_X0_changes
  refine ⟨B0.nn, ⟨by omega, by omega⟩, ?_⟩
  intro h2 e2
  have F2 : Fr W0 h.c h2.c := by rw [e2]; exact (Fr.refl h.c).new _ _ _
  have z2' : h2.sz = h.sz + 1 := by rw [e2]; rfl
  have k2 : (h2.kd h.sz).1 = 17 := by rw [e2, new_kd, if_pos rfl]
  have f2 : ∀ f, h2.fi f h.sz = 0 := fun f => by rw [e2, new_fi, if_pos rfl]
  have r2 : h2.rc = h.rc - 1 ∧ h2.rs = h.rs - 13 := by rw [e2]; exact ⟨rfl, rfl⟩
  refine ⟨8, 2560, ⟨by omega, by omega⟩, ?_⟩
  have S2 := (CH.keep F2 (fun _ _ hh => hh.elim)).X.S
  refine px_initI (h := h2.srm 8 2560) CH.W WF' S2 (TR.w0 F2) k2 (by show h.sz < h2.sz; omega) f2 (Nat.le_refl _) (Nat.le_refl _) ?_
  intro h4 B' tu' un' s' F4 R4 tz uz zB _ _ h5 e5
  have ez : (h2.srm 8 2560).sz = h2.sz := rfl
  rw [ez] at zB
  have c5 : h5.c = h4.c := by rw [e5]; rfl
  have F5 : Fr (WIo h.sz) h2.c h5.c := by rw [c5]; exact F4
  have G5 : Fr W0 h.c h5.c := F2.trans' F5 (fun f b hb hh => by have l : b < h.sz := hb; have := hh.1; omega)
  have R5 : InR h5.c L D A.g V' o h.sz B' tu' un' s' := by rw [c5]; exact R4
  have C5 := CH.keep G5 (fun _ _ hh => hh.elim)
  have GN5 : GnR h5.c D ga gv' := ⟨by rw [G5.fr _ _ TR.tl id]; exact GN.f, by rw [G5.kd _ GN.l]; exact GN.k, Nat.lt_of_lt_of_le GN.l G5.sz, fun j hj => by rw [G5.ai _ GN.l id]; exact GN.v j hj⟩
  have K5 : RkB h5.c L D A.g V' o h.sz B' tu' un' s' ga gv' := ⟨R5, C5.U, GN5⟩
  have r5 : h5.rc = h.rc - 9 ∧ h5.rs = h.rs - 2573 := by rw [e5]; show h2.rc - 8 = _ ∧ h2.rs - 2560 = _; omega
  refine ⟨nn_of rfl (by rw [show h5.kd o = h.kd o from G5.kd o ol]; exact B0.k), ?_⟩
  intro h10 e10
  have F10 : Fr (fun f b => f = 106 ∧ b = o) h5.c h10.c := by rw [e10]; exact (Fr.refl h5.c).sfr _ (fun _ => ⟨rfl, rfl⟩)
  have K10 := K5.keep5 F10 (fun f a hh => .inl (by have := hh.1; omega))
  have x10 : h10.fr 106 o = some h.sz := by rw [e10, sfr_same]
  have r10 : h10.rc = h.rc - 9 ∧ h10.rs = h.rs - 2573 := by rw [e10]; exact r5
  refine ⟨1, 320, ⟨by omega, by omega⟩, px_themselves (h := h10.srm 1 320) (Nat.le_refl _) (Nat.le_refl _) ?_⟩
  intro h12 F12 k12 a12 z12 _ _ h13 e13
  have ez10 : (h10.srm 1 320).sz = h10.sz := rfl
  rw [ez10] at k12 a12 z12 ⊢
  have c13 : h13.c = h12.c := by rw [e13]; rfl
  have F13 : Fr W0 h10.c h13.c := by rw [c13]; exact F12
  have k13 : h13.kd h10.sz = (40, 320) := by rw [e13]; exact k12
  have a13 : ∀ i, i < 320 → h13.ai h10.sz i = I i := by rw [e13]; exact a12
  have z13 : h13.sz = h10.sz + 1 := by rw [e13]; exact z12
  have r13 : h13.rc = h.rc - 10 ∧ h13.rs = h.rs - 2893 := by rw [e13]; show h10.rc - 1 = _ ∧ h10.rs - 320 = _; omega
  have K13 := K10.keep5 F13 (fun _ _ hh => hh.elim)
  have G10 : Fr (fun f b => f = 106 ∧ b = o) h.c h10.c := (G5.mono (fun _ _ _ hh => hh.elim)).trans F10
  have G13 : Fr (fun f b => f = 106 ∧ b = o) h.c h13.c := G10.trans' F13 (fun _ _ _ hh => hh.elim)
  have no0 : ∀ a, ¬ ((0 : Nat) = 106 ∧ a = o) := fun a hh => by omega
  have Va13 : VaR h13.c D V' v := fun k a hk ha => by rw [G13.ai _ (TR.nd k hk).vl (no0 _)]; exact Va k a hk ha
  rw [x10, x6, adr_some]
  have z10 : h.sz ≤ h10.sz := G10.sz
  have l5 : tu' < h5.c.sz ∧ un' < h5.c.sz := ⟨R5.Tr.l1, R5.Tr.l2⟩
  have l10 : tu' < h10.sz ∧ un' < h10.sz := ⟨Nat.lt_of_lt_of_le l5.1 F10.sz, Nat.lt_of_lt_of_le l5.2 F10.sz⟩
  have HR0 := HR tu' un' (by omega) (by omega)
  have HR13 : HadR h13.c i0 B.kn tu un tu' un' := by
    refine ⟨by rw [G13.kd _ HR0.l]; exact HR0.k, Nat.lt_of_lt_of_le HR0.l G13.sz, ?_, ?_, ?_, by rw [G13.kd _ HR0.l1]; exact HR0.k1, by rw [G13.kd _ HR0.l2]; exact HR0.k2, by rw [G13.kd _ HR0.l3]; exact HR0.k3, Nat.lt_of_lt_of_le HR0.l1 G13.sz, Nat.lt_of_lt_of_le HR0.l2 G13.sz, Nat.lt_of_lt_of_le HR0.l3 G13.sz, HR0.n1, HR0.n2, HR0.n3⟩
    · rw [G13.fr _ _ HR0.l (fun hh => by omega)]; exact HR0.f1
    · rw [G13.fr _ _ HR0.l (fun hh => by omega)]; exact HR0.f2
    · rw [G13.fr _ _ HR0.l (fun hh => by omega)]; exact HR0.f3
  have eI' : istO A.g V' gv' = V'.ist A.g gv' CH.W WF' CH.Y := istO_eq CH.W WF' CH.Y
  have IS' := istO_I gv' CH.W WF' CH.Y
  have IS := istO_I gv CH.W K.WF CH.Y
  have hvo : ∀ i, V.is A.g i → v i = (istO A.g V gv).val i := fun i hi => by
    obtain ⟨q, q1, q2⟩ := F0.a i hi
    exact N.a i q q2 q1
  generalize hS0 : istO A.g V gv = S0 at *
  have hE : S0.E = (istO A.g V' gv').E := by rw [IS.ee, IS'.ee, eed]
  have hM : S0.M = (istO A.g V' gv').M := by rw [IS.mm, IS'.mm, en]
  refine ⟨nn_of rfl K13.I.K.J.k, 2, 640, ⟨by omega, by omega⟩, ?_⟩
  refine px_reckonsDue (h := h13.srm 2 640) CH.W WF' CH.Y dv K13 Va13 (due := due) (nw := fun _ => False) (σ := fun i => i) (otn := S0.tn) (ous := S0.us) ?_ ?_ ?_ ?_ k13 (by show h10.sz < h13.sz; omega) (by omega) ?_ HR13 ?_ (fun _ _ hh => hh.elim) ?_ (Nat.le_refl _) (Nat.le_refl _) ?_
  · show h13.kd du = _
    rw [show h13.kd du = h.kd du from G13.kd du ldu]; exact kdu
  · have := G13.sz
    have l : h.sz ≤ h13.sz := this
    show du < h13.sz
    omega
  · omega
  · intro i hi
    rw [show (h13.srm 2 640).ai du = h.ai du from G13.ai du ldu (no0 _)]
    exact vdu i hi
  · intro i hi
    have := WF'.isLt hi
    exact ⟨fun hh => hh.elim, fun _ => ⟨a13 i (by omega), by omega⟩⟩
  · intro i hi htr _
    have hi0 := (eis i).1 hi
    have hlt := K.WF.isLt hi0
    obtain ⟨q, q1, q2⟩ := F0.a i hi0
    have h320 := F0.n
    rw [eed] at htr
    have hkt : s.kt q = true := (F0.f i q q2).2 htr
    obtain ⟨b1, b2⟩ := N.b i q q2 q1 hkt
    refine ⟨q, by omega, ?_, ?_, ?_⟩
    · rw [show (h13.srm 2 640).ai B.kn = h.ai B.kn from G13.ai _ HR0.l1 (no0 _), show h.ai B.kn i = oI (s.kn i) from hkn i hlt, q2]; rfl
    · rw [show (h13.srm 2 640).ai tu = h.ai tu from G13.ai _ HR0.l2 (no0 _)]; exact b1
    · rw [show (h13.srm 2 640).ai un = h.ai un from G13.ai _ HR0.l3 (no0 _)]; exact b2
  · rw [← eI']
    intro i hi hnd hout
    have hiV := (IS'.vv i).1 hi
    have hi0 := (eis i).1 hiV
    have st := Ist.stays (S0 := S0) (S := istO A.g V' gv') (σ := fun i => i) (i := i) hi (by rw [hE, hM]; simp) (by rw [hE]) ((IS.vv i).2 hi0) (fun x y _ _ e => e) (fun j hj w w' hw => ?_) (fun j x hj hx hnx => ?_)
    · refine ⟨fun j hj => ?_, fun ht => ?_⟩
      · have e1 := st.1 j hj
        have hjV := (istO A.g V' gv').cls_V hi hj
        rw [← e1]
        exact (hvo j ((eis j).1 ((IS'.vv j).1 hjV))).symm
      · have e2 := st.2 ht
        exact ⟨e2.1.symm, e2.2.symm⟩
    · have hjV := (istO A.g V' gv').cls_V hi hj
      have hj0 := (eis j).1 ((IS'.vv j).1 hjV)
      rw [IS.ff, IS'.ff]
      rw [hF j hj0 (hnd j hj)]
      refine V'.mk_congr WF' CH.Y gv' ((IS'.vv j).1 hjV) (fun x hx => ?_)
      rw [IS'.ee] at hw
      exact hw x hx
    · have e1 := (hout j x hj hx hnx).2
      have hxV : V'.is A.g x := by
        rw [IS'.ee] at hx
        exact (WF'.edV CH.W hx).2
      rw [e1]
      exact (hvo x ((eis x).1 hxV)).symm
  · intro h19 w F19 V19 N19 n110 n111 _ _ h20 e20
    have c20 : h20.c = h19.c := by rw [e20]; rfl
    have F20 : Fr (WD D V' tu' un' o) h13.c h20.c := by rw [c20]; exact F19
    have K20 := K13.keepW F20 (fun f a hh => hh.w)
    have T13 := K13.I.K.R
    have T20 := K20.I.K.R
    have G20 : Fr (fun f a => (a = o ∧ (f = 106 ∨ f = 110 ∨ f = 111)) ∨ (f = 0 ∧ ∃ k, k < V'.n ∧ a = D.va k)) h.c h20.c := (G13.mono (fun f a _ hh => .inl ⟨hh.2, .inl hh.1⟩)).trans' F20 (fun f b hb hh => by
      have l : b < h.sz := hb
      rcases hh with hh | hh
      · rcases hh.2 with e | e | e
        · exact .inr ⟨hh.1, e⟩
        · omega
        · omega
      · exact .inl ⟨hh.2, .inr hh.1⟩)
    have nof : ∀ f a, f ≠ 0 → (f ≠ 106 ∧ f ≠ 110 ∧ f ≠ 111) → ¬ ((a = o ∧ (f = 106 ∨ f = 110 ∨ f = 111)) ∨ (f = 0 ∧ ∃ k, k < V'.n ∧ a = D.va k)) := fun f a h1 h2 hh => by
      rcases hh with hh | hh
      · omega
      · exact h1 hh.1
    have noz : ∀ {a t m : Nat}, h.c.kd a = (t, m) → (t, m) ≠ (40, 8) → ¬ ((a = o ∧ ((0 : Nat) = 106 ∨ (0 : Nat) = 110 ∨ (0 : Nat) = 111)) ∨ ((0 : Nat) = 0 ∧ ∃ k, k < V'.n ∧ a = D.va k)) := fun {a t m} hk h8 hh => by
      rcases hh with hh | ⟨_, k, hk', e⟩
      · omega
      · have e2 := (TR.nd k hk').vk
        rw [← e, hk] at e2
        exact h8 e2
    have B20 : CbR h20.c o jn tpa := B0.keep G20 (nof _ _ (by decide) (by decide)) (nof _ _ (by decide) (by decide)) (noz B0.j2 (by decide))
    have Y20 : CtR h20.c o tpa (X.ws 0) := by
      refine ⟨?_, ?_, ?_, ?_, ?_⟩
      · rw [G20.fi _ _ B0.l (nof _ _ (by decide) (by decide))]; exact Y0.n
      · rw [G20.ai _ B0.t3 (noz B0.t2 (by decide))]; exact Y0.tt
      · rw [G20.fi _ _ B0.l (nof _ _ (by decide) (by decide))]; exact Y0.st
      · rw [G20.fi _ _ B0.l (nof _ _ (by decide) (by decide))]; exact Y0.fk
      · rw [G20.fi _ _ B0.l (nof _ _ (by decide) (by decide))]; exact Y0.fp
    have Z20 : CoR h20.c := Z0.keep' G20 (fun a => nof _ _ (by decide) (by decide)) (fun a => nof _ _ (by decide) (by decide)) (fun v hv => noz (t := (h.c.kd v).1) (m := (h.c.kd v).2) rfl (fun e => by have := (Prod.mk.inj e).1; omega))
    have CI20 : CsI h20.c := I0.keep G20 (noz I0.k (by decide)) (fun a => nof _ _ (by decide) (by decide))
    have zz' : zz ≤ h.sz := zs
    have e110 : h20.c.fi 110 o = I (cnP (fun i => (istO A.g V' gv').V i ∧ (istO A.g V' gv').tch due (fun _ => False) v i) (istO A.g V' gv').M) := by
      rw [c20]
      have e1 : cnP (fun i => (istO A.g V' gv').V i ∧ (istO A.g V' gv').tch due (fun _ => False) v i) (istO A.g V' gv').M = cnP (fun i => V'.is A.g i ∧ (V'.ist A.g gv' CH.W WF' CH.Y).tch due (fun _ => False) v i) (8 * V'.n) := by
        rw [IS'.mm, eI']; rfl
      rw [e1]; exact n110
    have e111 : h20.c.fi 111 o = I (cnP (fun i => (istO A.g V' gv').V i ∧ (istO A.g V' gv').chg due (fun _ => False) v i) (istO A.g V' gv').M) := by
      rw [c20]
      have e1 : cnP (fun i => (istO A.g V' gv').V i ∧ (istO A.g V' gv').chg due (fun _ => False) v i) (istO A.g V' gv').M = cnP (fun i => V'.is A.g i ∧ (V'.ist A.g gv' CH.W WF' CH.Y).chg due (fun _ => False) v i) (8 * V'.n) := by
        rw [IS'.mm, eI']; rfl
      rw [e1]; exact n111
    have hcl := cnP_le (fun i => (istO A.g V' gv').V i ∧ (istO A.g V' gv').tch due (fun _ => False) v i) (istO A.g V' gv').M
    have hMM := IS'.mm
    refine hP h20 (CRep.ofT (V := V') (sz := sz) (gv := gv') (g := g) (L := L) (z := zz) (hs := hsh) (D := D) (i := h.sz) (B := B') (tu := tu') (un := un') (s := s') (ga := ga) (v := w) ⟨ok.m, ok.b, ok.g, fun V9 s9 g9 e => ?_⟩ B20 Y20 Z20 (J0.keep G20) CI20 hg rfl ⟨?_, ?_, ?_, ?_, ?_, ?_, ?_, ?_⟩ ⟨fun e => absurd e (by simp [AX.cg, AX.an, AX.mk]), fun a b e => ?_⟩)
    · obtain ⟨e1, e2⟩ := Prod.mk.inj (Option.some.inj e)
      obtain ⟨e3, e4⟩ := Prod.mk.inj e2
      subst e1 e3 e4
      exact ⟨A, ind, hg, K', d0⟩
    · rw [G20.fr _ _ B0.l (nof _ _ (by decide) (by decide))]; exact f3
    · have : h20.c.lo = h.c.lo := by unfold HC.lo; rw [G20.bs]
      rw [this]; exact zl
    · exact Nat.le_trans zs G20.sz
    · refine C.kc zs G20 (fun f a ha hh => ?_)
      rcases hh with hh | ⟨_, k, hk, e⟩
      · exact .inl (by omega)
      · have := (z1 k hk).2.2.2
        omega
    · rw [G20.fr _ _ B0.l (nof _ _ (by decide) (by decide))]; exact f4
    · intro x sm e
      refine (H x sm e).keep G20 (fun f h1 h2 => nof _ _ (by omega) (by omega)) (fun hh => ?_)
      rcases hh with hh | ⟨_, k, hk, e2⟩
      · omega
      · exact hsm x sm e k hk e2.symm
    · refine ⟨K20, by rw [c20]; exact V19, ?_, dv, ij, ?_, ?_, rn, rm, z1, ?_⟩
      · rw [eI', c20]; exact N19
      · rw [F20.fr _ _ T13.xl (fun hh => by
          rcases hh with hh | hh
          · have := hh.1; omega
          · omega), F13.fr _ _ K10.I.K.R.xl id]
        exact x10
      · rw [G20.fr _ _ TR.tl (nof _ _ (by decide) (by decide))]; exact rt
      · exact ⟨z2.1, z2.2.1, z2.2.2.1, z2.2.2.2, by omega, by omega, by omega, by omega, by omega, by omega, by omega, by omega, by omega⟩
    · exact hsm
    · obtain ⟨e1, e2⟩ := Prod.mk.inj (Option.some.inj e)
      subst e1 e2
      exact ⟨e110, e111, by omega⟩
end
