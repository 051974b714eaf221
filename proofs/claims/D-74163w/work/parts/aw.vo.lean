/-! plain: vo -/
set_option maxRecDepth 100000
section
variable {h : AH} {o jn tpa : Nat} {X : AX} {x y z u : Int32} {L : GA} {A : PG} {g : Nat} {ind : Nat → Int32} {Q : Int32 → AH → Prop} {V : Tv} {sz : Nat → Nat} {gv : Nat → Int32}
variable {lo q n : Nat} {tp : Nat → Nat} {t : Tk}

theorem px_isSizeR (R : CRep h.c o jn tpa X) (hQ : Q (iP (inR x (X.m + 1))) h) : wp_X0_isSize o x h Q := by
  unfold wp_X0_isSize
  have hm := R.ok.m
  rw [show h.fi 102 o = I X.m from R.Y.n]
  refine ⟨R.B.nn, px_isInR (h := h.srm 0 0) (m := X.m + 1) (by omega) (I_sub (a := X.m + 1) (b := 1) (by omega)).symm (pu ⟨iP_01 _, hQ⟩)⟩
/-- what a reader's making writes of what there is. -/
def WR0 (o : Nat) : Nat → Nat → Prop := fun f a => a = o ∧ (f = 102 ∨ f = 108 ∨ f = 109)
/-- the state while there is a reader. -/
def AX.rd (X : AX) : AX := AX.mk 0 X.tp X.st 0 (-1) X.gr X.tr X.an
theorem AX.OK.rd {X : AX} (K : X.OK) : X.rd.OK := ⟨Nat.zero_le _, K.b, K.g, K.t⟩
theorem RdK.wr0 {c c' : HC} (K : RdK c lo q o jn tpa tp n t) (F : Fr (WR0 o) c c') (hqo : q ≠ o) : RdK c' lo q o jn tpa tp n t := by
  have ql := K.R.l
  have nf : ∀ f a, f ≠ 102 → f ≠ 108 → f ≠ 109 → ¬ WR0 o f a := fun f a h1 h2 h3 hh => by have := hh.2; omega
  refine ⟨K.R.keep F (nf _ _ (by decide) (by decide) (by decide)) (nf _ _ (by decide) (by decide) (by decide)) (nf _ _ (by decide) (by decide) (by decide)) (nf _ _ (by decide) (by decide) (by decide)) (nf _ _ (by decide) (by decide) (by decide)) (nf _ _ (by decide) (by decide) (by decide)) (fun f a hh => by rw [hh.1]; exact K.R.B.b), K.T.with (fun f h1 h2 h3 h4 => F.fi f q ql (fun hh => hqo hh.1)) (fun hk => ?_), ?_⟩
  · obtain ⟨wa, wv, e1, e2, e3⟩ := K.T.w0 hk
    exact ⟨wa, wv, by rw [F.fr 305 q ql (fun hh => hqo hh.1)]; exact e1, e2.keep F (nf _ _ (by decide) (by decide) (by decide)) (nf _ _ (by decide) (by decide) (by decide)) (nf _ _ (by decide) (by decide) (by decide)), e3.keep F e2.l (nf _ _ (by decide) (by decide) (by decide)) (nf _ _ (by decide) (by decide) (by decide))⟩
  · have := K.L
    unfold HC.lo at *
    rw [F.bs]; exact this
theorem px_reader (R : CRep h.c o jn tpa X) {n : Nat} (hn : n ≤ X.m) (hrc : h.rc = 6) (hrs : h.rs = 82) {P : Option Nat → AH → Prop}
    (hP : ∀ h', Fr (WR0 o) h.c h'.c → RdK h'.c h.c.lo h.sz o jn tpa X.tp n (tok X.tp n 0) → CRep h'.c o jn tpa X.rd → h'.fi 303 h.sz = 0 → h'.fi 304 h.sz = 0 → h'.fi 311 h.sz = 0 → h.sz < h'.sz → P (some h.sz) h') : wp_X0_reader o (I n) h P := by
  have hm := R.ok.m
  have ol : o < h.sz := R.B.l
  have lz : h.c.lo ≤ h.sz := R.lz
  unfold wp_X0_reader
  refine ⟨⟨by omega, by omega⟩, ?_⟩
  intro h1 e1
  have F1 : Fr W0 h.c h1.c := by rw [e1]; exact (Fr.refl h.c).new 3 0 14
  have z1 : h1.sz = h.sz + 1 := by rw [e1]; rfl
  have k1 : (h1.kd h.sz).1 = 3 := by rw [e1, new_kd, if_pos rfl]
  have fz : ∀ f, h1.fi f h.sz = 0 := fun f => by rw [e1, new_fi, if_pos rfl]
  refine ⟨5, 68, ⟨by rw [e1, new_rc]; omega, by rw [e1, new_rs]; omega⟩, ?_⟩
  dsimp only
  unfold wp_X2_init
  refine ⟨nn_of rfl k1, ?_⟩
  intro h2 e2 h3 e3 h4 e4
  have nl : ∀ {a : Nat}, a < h.c.sz → a = h.sz → False := fun {a} ha e => by have : a < h.sz := ha; omega
  have F2 : Fr W0 h.c h2.c := by rw [e2]; exact Fr.sfr (h := h1.srm 5 68) F1 _ (fun hh => absurd hh (Nat.lt_irrefl _))
  have F3 : Fr W0 h.c h3.c := by rw [e3]; exact F2.sfr _ (fun hh => absurd hh (Nat.lt_irrefl _))
  have F4 : Fr W0 h.c h4.c := by rw [e4]; exact F3.sfi _ (fun hh => absurd hh (Nat.lt_irrefl _))
  have k4 : (h4.kd h.sz).1 = 3 := by rw [e4, e3, e2]; exact k1
  have z4 : h4.sz = h.sz + 1 := by rw [e4, e3, e2]; exact z1
  have R4 : CRep h4.c o jn tpa X := R.w0 (h' := h4) F4
  have s4 : h4.fi 300 h.sz = I n := by rw [e4, sfi_same]
  have u4 : h4.fr 313 h.sz = some o := by
    rw [e4]; show h3.fr 313 h.sz = some o
    rw [e3, sfr_ne _ _ _ _ (by decide), e2, sfr_same]
  have g4 : ∀ f, f ≠ 300 → h4.fi f h.sz = 0 := fun f hf => by
    rw [e4, sfi_ne _ _ _ _ hf, e3, e2]; exact fz f
  have lo4 : h4.c.lo = h.c.lo := by unfold HC.lo; rw [F4.bs]
  have RR : RdR h4.c h.sz o jn tpa X.tp n := ⟨k4, by show h.sz < h4.sz; omega, by rw [lo4]; exact lz, s4, u4, R4.B, by omega, fun k hk => R4.Y.tt k (by omega), R.ok.b, R4.Z⟩
  refine ⟨5, 68, ⟨by rw [e4, e3, e2]; exact Nat.le_refl _, by rw [e4, e3, e2]; exact Nat.le_refl _⟩, ?_⟩
  refine px_reads (h := h4.srm 5 68) (p := 0) RR (g4 302 (by decide)) (Nat.zero_le _) rfl rfl ?_
  intro h6 F6 C6 h7 e7 h8 e8
  have F6' : Fr W0 h.c h6.c := F4.trans' F6 (fun f a ha hh => by have := hh.1; exact nl ha this)
  have c8 : h8.c = h6.c := by rw [e8, e7]; rfl
  have F8 : Fr W0 h.c h8.c := by rw [c8]; exact F6'
  have R8 : CRep h8.c o jn tpa X := R.w0 (h' := h8) F8
  have nq : ∀ f a, f = 300 ∨ f = 313 ∨ f = 100 ∨ f = 101 ∨ f = 0 → ¬ WRd h.sz f a := fun f a hf hh => by have := hh.2; omega
  have RR6 : RdR h8.c h.sz o jn tpa X.tp n := by
    rw [c8]
    exact RR.keep F6 (nq _ _ (by simp)) (nq _ _ (by simp)) (nq _ _ (by simp)) (nq _ _ (by simp)) (nq _ _ (by simp)) (nq _ _ (by simp)) (fun f a hh => by rw [hh.1, lo4]; exact lz)
  have K8 : RdK h8.c h.c.lo h.sz o jn tpa X.tp n (tok X.tp n 0) := ⟨RR6, by rw [c8]; exact C6, by unfold HC.lo; rw [F8.bs]⟩
  refine ⟨R8.B.nn, ?_⟩
  intro h9 e9 h10 e10 h11 e11
  have F11 : Fr (WR0 o) h8.c h11.c := by
    rw [e11]
    refine Fr.sfi ?_ _ (fun _ => ⟨rfl, .inr (.inr rfl)⟩)
    rw [e10]
    refine Fr.sfi ?_ _ (fun _ => ⟨rfl, .inr (.inl rfl)⟩)
    rw [e9]
    exact (Fr.refl h8.c).sfi _ (fun _ => ⟨rfl, .inl rfl⟩)
  have hso : h.sz ≠ o := by omega
  have fk : ∀ f, f ≠ 302 → f ≠ 301 → f ≠ 305 → f ≠ 306 → f ≠ 307 → f ≠ 308 → f ≠ 300 → h11.fi f h.sz = 0 := fun f a1 a2 a3 a4 a5 a6 a7 => by
    rw [show h11.fi f h.sz = h8.fi f h.sz from F11.fi f h.sz RR6.l (fun hh => hso hh.1), show h8.fi f h.sz = h6.fi f h.sz from by rw [e8, e7]; rfl]
    rw [show h6.fi f h.sz = h4.fi f h.sz from F6.fi f h.sz (by show h.sz < h4.sz; omega) (fun hh => by have := hh.2; omega)]
    exact g4 f a7
  refine hP h11 ((F8.mono (fun _ _ _ hh => hh.elim)).trans F11) (K8.wr0 F11 hso) ?_ (fk _ (by decide) (by decide) (by decide) (by decide) (by decide) (by decide) (by decide)) (fk _ (by decide) (by decide) (by decide) (by decide) (by decide) (by decide) (by decide)) (fk _ (by decide) (by decide) (by decide) (by decide) (by decide) (by decide) (by decide)) (Nat.lt_of_lt_of_le RR6.l F11.sz)
  refine R8.go F11 ?_ ?_ R.ok.rd rfl rfl rfl
  · rintro f a ⟨rfl, hf⟩
    exact ⟨.inl (by omega), R8.B.b, by omega, by omega, by omega, by omega⟩
  · refine ⟨?_, fun k hk => absurd hk (Nat.not_lt_zero _), ?_, ?_, ?_⟩
    · show h11.fi 102 o = I 0
      rw [e11, sfi_ne _ _ _ _ (by decide), e10, sfi_ne _ _ _ _ (by decide), e9, sfi_same]; rfl
    · rw [F11.fi 107 o R8.B.l (fun hh => by have := hh.2; omega)]; exact R8.Y.st
    · show h11.fi 108 o = 0
      rw [e11, sfi_ne _ _ _ _ (by decide), e10, sfi_same]
    · show h11.fi 109 o = -1
      rw [e11, sfi_same]
theorem px_wrong (R : CRep h.c o jn tpa X) {q : Nat} {e : Fl} (T : ThR h.c q e) {P : Int32 → AH → Prop} (hP : ∀ h', CRep h'.c o jn tpa (AX.mk X.m X.tp 9 (I e.1) (I e.2) X.gr X.tr X.an) → P (-1) h') : wp_X0_wrong o (some q) (h.srm 0 0) fun r h2 => ∀ h3, h3 = h2.srm h.rc h.rs → P r h3 := by
  unfold wp_X0_wrong
  obtain ⟨t1, t2, t3, t4⟩ := T
  have t3' : h.fi 506 q = I e.1 := t3
  have t4' : h.fi 507 q = I e.2 := t4
  refine ⟨nn_of rfl t1, R.B.nn, ?_⟩
  rw [adr_some]
  intro h3 e3 h4 e4
  have e3' : h3 = (h.srm 0 0).sfi 108 o (I e.1) := by rw [e3]; show (h.srm 0 0).sfi 108 o (h.fi 506 q) = _; rw [t3']
  have f7 : h3.fi 507 q = I e.2 := by rw [e3', sfi_ne _ _ _ _ (by decide)]; exact t4'
  rw [f7] at e4
  have F4 : Fr (WR0 o) h.c h4.c := by
    rw [e4]
    refine Fr.sfi ?_ _ (fun _ => ⟨rfl, .inr (.inr rfl)⟩)
    rw [e3']
    exact Fr.sfi (h := h.srm 0 0) (Fr.refl h.c) _ (fun _ => ⟨rfl, .inr (.inl rfl)⟩)
  have R4 : CRep h4.c o jn tpa (AX.mk X.m X.tp X.st (I e.1) (I e.2) X.gr X.tr X.an) := by
    refine R.go F4 ?_ ?_ ⟨R.ok.m, R.ok.b, R.ok.g, R.ok.t⟩ rfl rfl rfl
    · rintro f a ⟨rfl, hf⟩
      exact ⟨.inl (by omega), R.B.b, by omega, by omega, by omega, by omega⟩
    · refine ⟨?_, fun k hk => ?_, ?_, ?_, ?_⟩
      · rw [e4, e3']
        show (((h.srm 0 0).sfi 108 o (I e.1)).sfi 109 o (I e.2)).fi 102 o = _
        rw [sfi_ne _ _ _ _ (by decide), sfi_ne _ _ _ _ (by decide)]; exact R.Y.n
      · rw [F4.ai _ R.B.t3 (fun hh => by have := hh.2; omega)]; exact R.Y.tt k hk
      · rw [F4.fi 107 o R.B.l (fun hh => by have := hh.2; omega)]; exact R.Y.st
      · show h4.fi 108 o = _
        rw [e4, sfi_ne _ _ _ _ (by decide), e3', sfi_same]; rfl
      · show h4.fi 109 o = _
        rw [e4, sfi_same]; rfl
  refine qn0 R4 ?_
  intro h5 R5 h6 e6
  refine hP h6 ?_
  rw [e6]; exact R5
theorem cut_self (c : HC) : c.cut c.sz = c := rfl
theorem q_grammar (R : CRep h.c o jn tpa X) (hc : inR x (X.m + 1) → 1000 + 194 * X.m ≤ h.rc) (hs : inR x (X.m + 1) → 5000 + 5146 * X.m ≤ h.rs) (hQ : ∀ h', CRep h'.c o jn tpa (xGrammar X x) → Q (qGrammar X x) h') : wp_X0_grammar o x h Q := by
  unfold wp_X0_grammar
  unfold xGrammar qGrammar at hQ
  have hm := R.ok.m
  refine ⟨R.B.nn, px_isSizeR (h := h.srm 0 0) R (pu ?_)⟩
  rintro m rfl
  refine ⟨R.B.nn, qc0 R (fun h' R' c' s' => ?_)⟩
  by_cases hr : inR x (X.m + 1)
  rotate_left
  · rw [iP_neg hr] at R' ⊢
    rw [cif_neg hr, cif_neg hr] at hQ
    exact brT (by decide) (hQ h' R')
  rw [iP_pos hr] at R' ⊢
  rw [cif_pos hr, cif_pos hr] at hQ
  rw [if_neg (by decide)] at R'
  replace hc := hc hr
  replace hs := hs hr
  obtain ⟨n, hn, e⟩ := hr
  subst e
  rw [I_ni (by omega)] at hQ
  refine brF (by decide) ⟨R'.B.nn, 6, 82, ⟨by omega, by omega⟩, ?_⟩
  refine px_reader (h := h'.srm 6 82) R' (show n ≤ X.m by omega) rfl rfl ?_
  intro h2 F2 K2 R2 f3 f4 f11 z2 h3 e3
  have c3 : h3.c = h2.c := by rw [e3]; rfl
  have R3 : CRep h3.c o jn tpa (X.ws 0).rd := by rw [c3]; exact R2
  have K3 : RdK h3.c h'.c.lo h'.sz o jn tpa X.tp n (tok X.tp n 0) := by rw [c3]; exact K2
  have rc3 : h3.rc = h.rc - 6 := by rw [e3]; show h'.rc - 6 = _; omega
  have rs3 : h3.rs = h.rs - 82 := by rw [e3]; show h'.rs - 82 = _; omega
  have hz : (h'.srm 6 82).sz = h'.sz := rfl
  rw [hz, adr_some]
  refine ⟨nn_of rfl K3.R.k, ?_⟩
  refine g_readsGrammar K3 rfl R3.J ⟨by rw [e3]; exact f3, by rw [e3]; exact f4⟩ (by omega) (by omega) ?_ ?_
  · intro A eA h4 L ind F4 C4 B4 Z4
    rw [eA] at hQ
    dsimp only at hQ
    have nf : ∀ f a, f < 300 → f ≠ 0 → ¬ (WA h'.c.lo h'.sz f a ∨ f = 605 ∨ f = 706) := fun f a h1 h2 hh => by
      rcases hh with hh | hh | hh
      · have := hh.2; omega
      · omega
      · omega
    have n0 : ∀ a, ¬ (WA h'.c.lo h'.sz 0 a ∨ (0 = 605) ∨ 0 = 706) := fun a hh => by
      rcases hh with hh | hh | hh
      · have := hh.2; omega
      · omega
      · omega
    refine ⟨nn_of rfl B4.k, ?_⟩
    intro h5 e5 h6 e6 h7 e7
    have F7 : Fr (fun f a => a = o ∧ (f = 103 ∨ f = 104 ∨ f = 105)) h4.c h7.c := by
      rw [e7]
      refine Fr.sfr ?_ _ (fun _ => ⟨rfl, .inr (.inr rfl)⟩)
      rw [e6]
      refine Fr.sfr ?_ _ (fun _ => ⟨rfl, .inr (.inl rfl)⟩)
      rw [e5]
      exact (Fr.refl h4.c).sfr _ (fun _ => ⟨rfl, .inl rfl⟩)
    have g3 : h7.fr 103 o = some h3.sz := by rw [e7, sfr_ne _ _ _ _ (by decide), e6, sfr_ne _ _ _ _ (by decide), e5, sfr_same]
    have g4 : h7.fr 104 o = none := by rw [e7, sfr_ne _ _ _ _ (by decide), e6, sfr_same]
    have g5 : h7.fr 105 o = none := by rw [e7, sfr_same]
    have C7 : CgR h7.c L A h3.sz ind := C4.keep F7 (fun f a hh => .inl (.inl (by have := hh.2; omega)))
    have B7 : CbR h7.c o jn tpa := B4.keep F7 (fun hh => by have := hh.2; omega) (fun hh => by have := hh.2; omega) (fun hh => by have := hh.2; omega)
    have Y4 : CtR h4.c o tpa (X.ws 0).rd := R3.Y.kp R3.B F4 (fun f h1 h2 => nf f _ (by omega) (by omega)) (n0 _)
    have Y7 : CtR h7.c o tpa (X.ws 0).rd := by
      refine ⟨?_, fun k hk => absurd hk (Nat.not_lt_zero _), ?_, ?_, ?_⟩
      · rw [F7.fi _ _ B4.l (fun hh => by have := hh.2; omega)]; exact Y4.n
      · rw [F7.fi _ _ B4.l (fun hh => by have := hh.2; omega)]; exact Y4.st
      · rw [F7.fi _ _ B4.l (fun hh => by have := hh.2; omega)]; exact Y4.fk
      · rw [F7.fi _ _ B4.l (fun hh => by have := hh.2; omega)]; exact Y4.fp
    have Z7 : CoR h7.c := Z4.keep F7 (fun f a hh => by rw [hh.1]; exact B4.b)
    have CI4 : CsI h4.c := R3.CI.keep F4 (n0 _) (fun a hh => by
      rcases hh with hh | hh | hh
      · have := hh.2; omega
      · omega
      · omega)
    have CI7 : CsI h7.c := CI4.keep F7 (fun hh => by have := hh.2; omega) (fun a hh => by have := hh.2; omega)
    have eI : A.g.indO = ind := Gv.indO_eq C7.I
    rw [eI] at hQ
    have pl : h7.fr 401 h3.sz = some L.pl := C7.X.O.p1
    rw [g3, adr_some, pl, adr_some]
    refine ⟨nn_of rfl C7.X.O.k, nn_of rfl C7.X.O.p2.k, pc_size (h := h7.srm 0 0) C7.X.O.p2 (pu ?_)⟩
    have lz : h7.c.lo ≤ h7.c.sz := by
      have l1 := R3.lz
      have l2 := F4.sz
      have l3 := F7.sz
      have e : h7.c.lo = h3.c.lo := by unfold HC.lo; rw [F7.bs, F4.bs]
      omega
    refine hQ h7 ⟨⟨Nat.zero_le _, R.ok.b, ?_, ?_⟩, B7, Y7, Z7, (R3.J.keep F4).keep F7, CI7, lz, ?_, ?_, ?_⟩
    · intro A' i' e
      obtain ⟨e1, e2⟩ := Prod.mk.inj (Option.some.inj e)
      subst e1 e2
      exact ⟨C7.W, C7.Y, C7.I, fun i hi => C7.I.big C7.W hi⟩
    · intro V sz gv e
      exact absurd e (by simp [AX.tr, AX.mk])
    · intro e
      exact absurd e (by simp [AX.gr, AX.mk])
    · intro A' i' e
      obtain ⟨e1, e2⟩ := Prod.mk.inj (Option.some.inj e)
      subst e1 e2
      exact ⟨h3.sz, L, h7.c.sz, none, g3, ⟨lz, Nat.le_refl _⟩, C7, ⟨g4, fun x sm hh => absurd hh (by simp)⟩, fun _ => g5, fun V sz gv e => absurd e (by simp [AX.tr, AX.mk])⟩
    · intro e
      exact absurd rfl e
  · intro e eE w h4 F4 T4
    rw [eE] at hQ
    dsimp only at hQ
    have hW : ∀ f a, WA h'.c.lo h'.sz f a → okQ h3.c f a ∧ h3.c.lo ≤ a ∧ f ≠ 100 ∧ f ≠ 101 ∧ f ≠ 110 ∧ f ≠ 111 := by
      intro f a hh
      have h1 := hh.1
      have h2 := hh.2
      refine ⟨?_, by rw [K3.L]; exact h1, by omega, by omega, by omega, by omega⟩
      unfold okQ
      omega
    have R4 : CRep h4.c o jn tpa (X.ws 0).rd := R3.go F4 hW (R3.Y.kp R3.B F4 (fun f h1 h2 hh => by have := hh.2; omega) (fun hh => by have := hh.2; omega)) R3.ok rfl rfl rfl
    exact ⟨R4.B.nn, px_wrong R4 T4 (fun h5 R5 => hQ h5 R5)⟩
end
