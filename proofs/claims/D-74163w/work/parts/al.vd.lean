/-! plain: vd -/
set_option maxRecDepth 100000
section
variable {h : AH} {o jn tpa : Nat} {X : AX} {x y z : Int32} {L : GA} {A : PG} {g : Nat} {ind : Nat → Int32} {Q : Int32 → AH → Prop}

theorem fdA_gr (X : AX) (w : Int32) : (fdA X w).gr = X.gr ∧ (fdA X w).tr = X.tr ∧ (fdA X w).an = X.an := ⟨rfl, rfl, rfl⟩
theorem AX.OK.fd {X : AX} (K : X.OK) (hm : X.m + 4 ≤ 1000) (w : Int32) : (fdA X w).OK := by
  refine ⟨hm, fun i => ?_, K.g, K.t⟩
  show (if i < X.m then X.tp i else byW w (i - X.m)) < 256
  split
  · exact K.b i
  · exact byW_lt _ _
theorem AX.OK.feed {X : AX} (K : X.OK) (a b c d e : Int32) : (xFeed X a b c d e).OK := by
  unfold xFeed
  by_cases hm : X.m + 20 ≤ 1000
  · rw [if_pos hm]
    refine (((((K.fd (by omega) a).fd ?_ b).fd ?_ c).fd ?_ d).fd ?_ e) <;> · simp only [fdA_m]; omega
  · rw [if_neg hm]; exact K
theorem q_feed (R : CRep h.c o jn tpa X) {a b c d e : Int32} (hQ : ∀ h', CRep h'.c o jn tpa (xFeed X a b c d e) → Q (qFeed X) h') : wp_X0_feed o a b c d e h Q := by
  refine px_feed R.B R.Y R.ok.m ?_
  intro h' F Y' _ _
  have eg : (xFeed X a b c d e).gr = X.gr ∧ (xFeed X a b c d e).tr = X.tr ∧ (xFeed X a b c d e).an = X.an := by
    unfold xFeed
    by_cases hm : X.m + 20 ≤ 1000
    · rw [if_pos hm]; exact ⟨rfl, rfl, rfl⟩
    · rw [if_neg hm]; exact ⟨rfl, rfl, rfl⟩
  refine hQ h' (R.go F ?_ Y' (R.ok.feed a b c d e) eg.1 eg.2.1 eg.2.2)
  rintro f i (⟨rfl, rfl⟩ | ⟨rfl, rfl⟩)
  · exact ⟨.inl (by omega), R.B.b, by omega, by omega, by omega, by omega⟩
  · exact ⟨.inr (.inr (.inr ⟨rfl, R.B.t2⟩)), R.B.t4, by omega, by omega, by omega, by omega⟩
theorem q_status (R : CRep h.c o jn tpa X) (hQ : Q X.st h) : wp_X0_status o h Q := px_status R.B R.Y hQ
theorem q_fault (R : CRep h.c o jn tpa X) (hQ : Q (if x = 0 then X.fk else if x = 1 then X.fp else -1) h) : wp_X0_fault o x h Q := px_fault R.B R.Y hQ

theorem px_one1 {v : Int32} (hv : v = 0 ∨ v = 1) (hQ : Q v h) : wp_X0_one v h Q := by
  intro m hm
  have : m = v := by
    rw [hm]
    rcases hv with e | e
    · rw [e, if_pos rfl]
    · rw [e, if_neg (by decide)]
  rw [this]; exact hQ
theorem px_rm {G : Gv} {p : Nat} (U : RuR h.c L G) (S : GS h.c L G) (hp : p < G.nP) (hQ : Q (I (cnP (fun o => G.rl p o ≠ none) 32)) h) : wp_X6_rulesMany (L.pa p) h Q := by
  unfold wp_X6_rulesMany
  obtain ⟨u1, u2, u3⟩ := U.f p hp
  have u1' : h.fr 702 (L.pa p) = some (L.pr p) := u1
  have u2' : h.kd (L.pr p) = (46, 32) := u2
  refine xlp_cnt 32 (fun i s V => V = h ∧ s = (I (cnP (fun o => G.rl p o ≠ none) i), I i)) ⟨rfl, rfl⟩ ?_
  rintro i s V K hi ⟨rfl, rfl⟩ hK
  by_cases ei : i = 32
  · subst ei
    exact brT (show (32 : Int32) ≤ I 32 by decide) hQ
  have hi32 : i < 32 := by omega
  have hcl := cnP_le (fun o => G.rl p o ≠ none) i
  refine brF (by dsimp only; (first | omega | ((try simp (disch := omega) only [L_le, le_L, L_lt, lt_L, eq_L, L_eq, I_le, I_lt, I_eq, I_ni, add_L, L_add, I_add, mul_L, L_mul, I_mul, sub_L, L_sub, I_sub, div_L, rem_L]); done) | ((try simp (disch := omega) only [L_le, le_L, L_lt, lt_L, eq_L, L_eq, I_le, I_lt, I_eq, I_ni, add_L, L_add, I_add, mul_L, L_mul, I_mul, sub_L, L_sub, I_sub, div_L, rem_L]); omega))) ⟨nn_of rfl (S.pr p hp).k, ?_⟩
  dsimp only
  rw [u1']
  refine ⟨ix_of rfl u2' hi32 (by decide), ?_⟩
  rw [adr_some, I_ni (by omega)]
  intro m hm
  by_cases hr : G.rl p i = none
  · have e1 : V.ar (L.pr p) i = none := U.n p i hp hi32 hr
    rw [if_pos e1] at hm
    rw [hm]
    refine px_one1 (h := V.srm 0 0) (.inl rfl) (pu (hK _ _ hi32 ⟨rfl, ?_⟩))
    rw [cnP_neg (fun hh => hh hr)]
    exact Prod.ext (by show I _ + 0 = _; rw [show (0 : Int32) = I 0 from rfl, I_add]; rfl) (I_add i 1)
  · obtain ⟨e, he⟩ : ∃ e, G.rl p i = some e := by
      cases h1 : G.rl p i with
      | none => exact absurd h1 hr
      | some e => exact ⟨e, rfl⟩
    obtain ⟨a, e1, _⟩ := U.s p i e hp hi32 he
    have e1' : V.ar (L.pr p) i = some a := e1
    rw [if_neg (by rw [e1']; simp)] at hm
    rw [hm]
    refine px_one1 (h := V.srm 0 0) (.inr rfl) (pu (hK _ _ hi32 ⟨rfl, ?_⟩))
    rw [cnP_pos hr]
    exact Prod.ext (by show I _ + 1 = _; exact I_add _ 1) (I_add i 1)
theorem px_rulesMany (R : CRep h.c o jn tpa X) (hg : X.gr = some (A, ind)) (hr : 1 ≤ h.rc) (hs : 4 ≤ h.rs) (hQ : ∀ h', Fr W0 h.c h'.c → Q (I (nRl A.g)) h') : wp_X0_rulesMany o h Q := by
  unfold wp_X0_rulesMany
  obtain ⟨g, L, a1, C⟩ := R.cg hg
  have a1' : h.fr 103 o = some g := a1
  have s1 : h.fr 401 g = some L.pl := C.X.O.p1
  rw [a1', adr_some, s1, adr_some]
  refine ⟨R.B.nn, nn_of rfl C.X.O.k, nn_of rfl C.X.O.p2.k, ?_⟩
  refine each0 C.X.O.p2 hr hs (fun i s => s = I (sN (fun p => cnP (fun o => A.g.rl p o ≠ none) 32) i)) rfl ?_ ?_
  · rintro s h' rfl F
    exact hQ h' F
  · rintro i s h' K hi rfl F hK
    have C' := C.keep F (fun _ _ hh => hh.elim)
    have P := C'.X.S.pr i hi
    refine ⟨.inr (nn_of rfl P.k), nn_of rfl P.k, ?_⟩
    rw [adr_some]
    refine px_rm (h := h'.srm 0 0) C'.U C'.X.S hi (pu (hK _ ?_))
    exact I_add _ _
theorem CtR.kp {W : Nat → Nat → Prop} {c c' : HC} (Y : CtR c o tpa X) (B : CbR c o jn tpa) (F : Fr W c c') (hf : ∀ f, 100 ≤ f → f < 120 → ¬ W f o) (h0 : ¬ W 0 tpa) : CtR c' o tpa X :=
  ⟨by rw [F.fi _ _ B.l (hf _ (by decide) (by decide))]; exact Y.n, by rw [F.ai _ B.t3 h0]; exact Y.tt, by rw [F.fi _ _ B.l (hf _ (by decide) (by decide))]; exact Y.st, by rw [F.fi _ _ B.l (hf _ (by decide) (by decide))]; exact Y.fk, by rw [F.fi _ _ B.l (hf _ (by decide) (by decide))]; exact Y.fp⟩
theorem CRep.w0 {h' : AH} (R : CRep h.c o jn tpa X) (F : Fr W0 h.c h'.c) : CRep h'.c o jn tpa X :=
  R.go F (fun _ _ hh => hh.elim) (R.Y.kp R.B F (fun _ _ _ => id) id) R.ok rfl rfl rfl
theorem px_knotsNow (R : CRep h.c o jn tpa X) (h0 : X.tr = none → ∀ h', CRep h'.c o jn tpa (X.ws 3) → Q (-1) h') (h1 : X.tr ≠ none → Q (I (cnP (fun i => X.S.V i ∧ Trc X.S.E i i ∧ X.S.hd i = i) 320)) h) : wp_X0_knotsNow o h Q := by
  unfold wp_X0_knotsNow
  refine ⟨R.B.nn, ?_⟩
  cases ht : X.tr with
  | none => exact brT (R.t0 ht) (qn0 R (h0 ht))
  | some q =>
    obtain ⟨V, sz, gv⟩ := q
    obtain ⟨A, ind, hg, K⟩ := R.gt ht
    obtain ⟨g, L, z, D, i, B, tu, un, s, ga, v, a1, C, T⟩ := R.tx hg ht
    have e5 : h.fr 105 o = some D.t := T.R.I.K.R.xt
    have e6 : h.fr 106 o = some i := T.fi
    rw [e5, e6, adr_some]
    have eS : X.S = istO A.g V gv := by unfold AX.S; rw [hg, ht]
    have hQ := h1 (by rw [ht]; simp)
    rw [eS] at hQ
    refine brF (by simp) ⟨nn_of rfl T.R.I.K.J.k, ?_⟩
    exact px_knotMany (h := h.srm 0 0) C.W (istO_I gv C.W K.WF C.Y) K.WF T.R.I (pu hQ)
theorem q_many (R : CRep h.c o jn tpa X) (hc : 40 ≤ h.rc) (hs : 2000 ≤ h.rs) (hQ : ∀ h', CRep h'.c o jn tpa (X.ws (qMany X x).2) → Q (qMany X x).1 h') : wp_X0_many o x h Q := by
  unfold wp_X0_many
  refine px_isInR (h := h.srm 0 0) (m := 5) (by decide) (by decide) (pu ?_)
  unfold qMany at hQ
  by_cases hr : inR x 5
  rotate_left
  · rw [iP_neg hr]
    rw [cif_neg hr] at hQ
    rintro m rfl
    exact ⟨R.B.nn, qc0 R (fun h' R' _ _ => brT (by decide) (hQ h' R'))⟩
  rw [iP_pos hr]
  rw [cif_pos hr] at hQ
  rintro m rfl
  refine ⟨R.B.nn, qc0 R (fun h' R' c' s' => brF (by decide) ?_)⟩
  rw [if_neg (by decide)] at R'
  by_cases h4 : x = 4
  · rw [if_pos h4] at hQ
    refine brT h4 ⟨R'.B.nn, px_knotsNow (h := h'.srm 0 0) R' (fun ht => ?_) (fun ht => ?_)⟩
    · intro h2 R2 h3 e3
      have ht' : X.tr = none := ht
      rw [ht'] at hQ
      exact hQ h3 (by rw [e3]; exact R2)
    · refine pu ?_
      cases ht' : X.tr with
      | none => exact absurd ht' ht
      | some r =>
        rw [ht'] at hQ
        exact hQ h' R'
  rw [if_neg h4] at hQ
  refine brF h4 ?_
  by_cases h3 : x = 3
  · rw [if_pos h3] at hQ
    refine brT h3 ⟨R'.B.nn, ?_⟩
    cases ht : X.tr with
    | none =>
      rw [ht] at hQ
      exact brT (R'.t0 ht) (hQ h' R')
    | some q =>
      obtain ⟨V, sz, gv⟩ := q
      rw [ht] at hQ
      obtain ⟨A, ind, hg, K⟩ := R'.gt ht
      obtain ⟨g, L, z, D, i, B, tu, un, s, ga, v, a1, C, T⟩ := R'.tx hg ht
      have e5 : h'.fr 105 o = some D.t := T.R.I.K.R.xt
      have e6 : h'.fr 1602 D.t = some D.rl := T.R.I.K.R.rw_
      rw [e5, adr_some, e6, adr_some]
      refine brF (by simp) ⟨nn_of rfl T.R.I.K.R.tk, nn_of rfl T.R.I.K.R.rl.k, ?_⟩
      exact pc_size (h := h'.srm 0 0) T.R.I.K.R.rl (pu (hQ h' R'))
  rw [if_neg h3] at hQ
  refine brF h3 ⟨R'.B.nn, ?_⟩
  cases hg : X.gr with
  | none =>
    rw [hg] at hQ
    exact brT (R'.g0 hg).1 (hQ h' R')
  | some q =>
    obtain ⟨A, ind⟩ := q
    rw [hg] at hQ
    obtain ⟨g, L, a1, C⟩ := R'.cg hg
    have a1' : h'.fr 103 o = some g := a1
    have s0 : h'.fr 400 g = some L.sl := C.X.O.s1
    have s1 : h'.fr 401 g = some L.pl := C.X.O.p1
    rw [a1', adr_some, s0, s1, adr_some, adr_some]
    refine brF (by simp) ?_
    by_cases h0 : x = 0
    · simp only [if_pos h0] at hQ
      exact brT h0 ⟨nn_of rfl C.X.O.k, nn_of rfl C.X.O.s2.k, pc_size (h := h'.srm 0 0) C.X.O.s2 (pu (hQ h' R'))⟩
    simp only [if_neg h0] at hQ
    refine brF h0 ?_
    by_cases h1 : x = 1
    · simp only [if_pos h1] at hQ
      exact brT h1 ⟨nn_of rfl C.X.O.k, nn_of rfl C.X.O.p2.k, pc_size (h := h'.srm 0 0) C.X.O.p2 (pu (hQ h' R'))⟩
    simp only [if_neg h1] at hQ
    refine brF h1 ⟨1, 4, ⟨by omega, by omega⟩, px_rulesMany (h := h'.srm 1 4) R' hg (Nat.le_refl _) (Nat.le_refl _) ?_⟩
    intro h2 F2 h3 e3
    exact hQ h3 (by rw [e3]; exact R'.w0 (h' := h2) F2)
end
