/-! plain: un -/
set_option maxRecDepth 100000
section
variable {h : AH} {o jn tpa : Nat} {X : AX} {x y : Int32} {Q : Int32 → AH → Prop}

theorem CTx.keepG {W : Nat → Nat → Prop} {c c' : HC} {A : PG} {ind : Nat → Int32} {V : Tv} {gv : Nat → Int32} {g : Nat} {L : GA} {z : Nat} {hs : Option (Nat × Nat)} {D : TA} {i : Nat} {B : IA} {tu un : Nat} {s : TjS} {ga : Nat} {v : Vl} (K : CTx c o A ind V gv g L z hs D i B tu un s ga v) (ol : o < c.sz) (F : Fr W c c') (hW : ∀ f a, W f a → okQ c f a) : CTx c' o A ind V gv g L z hs D i B tu un s ga v := by
  have nf : ∀ f a, f ≠ 0 ∧ (f < 100 ∨ 400 ≤ f ∨ 103 ≤ f ∧ f ≤ 106) ∧ f ≠ 2202 ∧ f ≠ 2203 → ¬ W f a := fun f a hf hh => by
    rcases hW f a hh with h | h | h | h <;> omega
  have n0 : ∀ {b t n : Nat}, c.kd b = (t, n) → t ≠ 41 → ¬ W 0 b := fun {b t n} hb ht hh => by
    rcases hW 0 b hh with h | h | h | h
    · omega
    · omega
    · omega
    · rw [hb] at h; exact ht (Prod.mk.inj h.2).1
  refine ⟨by rw [F.fr _ _ ol (nf _ _ (by decide))]; exact K.f3, by have := K.zl; unfold HC.lo at *; rw [F.bs]; exact this, Nat.le_trans K.zs F.sz, K.C.kc K.zs F (fun f a _ hh => ?_), by rw [F.fr _ _ ol (nf _ _ (by decide))]; exact K.f4, fun x sm he => (K.H x sm he).keep F (fun f h1 h2 => nf f _ (by omega)) (n0 (K.H x sm he).mk (by decide)), K.T.keepG F hW, K.N⟩
  rcases hW f a hh with h | h | h | h
  · exact .inl (.inl ⟨h.1, h.2.1⟩)
  · exact .inl (.inr (.inl h))
  · exact .inl (.inr (.inr (.inl h)))
  · exact .inr h
theorem q_graft (R : CRep h.c o jn tpa X) (hc : inR y (X.m + 1) → X.tr ≠ none → (∀ r, X.tr = some r → inR x r.1.n) → 1000 + 64 * X.m ≤ h.rc) (hs : inR y (X.m + 1) → X.tr ≠ none → (∀ r, X.tr = some r → inR x r.1.n) → 14000 + 1024 * X.m ≤ h.rs) (hQ : ∀ h', CRep h'.c o jn tpa (xGraft X x y) → Q (qGraft X x y) h') : wp_X0_graft o x y h Q := by
  unfold wp_X0_graft
  unfold xGraft qGraft at hQ
  have hm := R.ok.m
  refine ⟨R.B.nn, px_isSizeR (h := h.srm 0 0) R (pu ⟨R.B.nn, px_whyNodeR (h := h.srm 0 0) R (pu ⟨R.B.nn, qc0 R (fun h' R' c' s' => ?_)⟩)⟩)⟩
  by_cases hr : inR y (X.m + 1)
  rotate_left
  · rw [cif_neg hr] at R' ⊢
    rw [cif_neg hr, cif_neg hr] at hQ
    exact brT (by decide) (hQ h' R')
  rw [cif_pos hr] at R' ⊢
  rw [cif_pos hr, cif_pos hr] at hQ
  cases ht : X.tr with
  | none =>
    rw [ht] at hQ
    rw [cif_neg (fun hh => hh ht)] at R'
    rw [cif_neg (fun hh => hh rfl)]
    exact brT (by decide) (hQ h' R')
  | some r =>
  obtain ⟨V, sz, gv⟩ := r
  rw [cif_pos (by rw [ht]; simp)] at R'
  rw [cif_pos (by simp)]
  obtain ⟨A, ind, hg, K⟩ := R.gt ht
  rw [AX.S_eq hg ht, ht, hg] at hQ
  dsimp only at hQ
  by_cases hI : inR x V.n
  rotate_left
  · rw [cif_neg (fun hh => hI ((okN_iff ht).1 hh))] at R' ⊢
    rw [cif_neg hI, cif_neg hI] at hQ
    exact brT (by decide) (hQ h' R')
  rw [cif_pos ((okN_iff ht).2 hI)] at R' ⊢
  rw [cif_pos hI, cif_pos hI] at hQ
  replace hc := hc hr (by rw [ht]; simp) (fun r e => by rw [ht] at e; rw [← Option.some.inj e]; exact hI)
  replace hs := hs hr (by rw [ht]; simp) (fun r e => by rw [ht] at e; rw [← Option.some.inj e]; exact hI)
  refine brF (by decide) ⟨R'.B.nn, ?_⟩
  have d0 : V.dp 0 = 0 := by
    obtain ⟨_, _, _, _, e⟩ := R.ok.t V sz gv ht
    exact e
  have n1 := K.n1
  have h40 := K.n40
  obtain ⟨k, hk, e⟩ := hI
  subst e
  obtain ⟨n, hn, en⟩ := hr
  subst en
  rw [I_ni (show k < 2147483648 by omega), I_ni (show n < 2147483648 by omega)] at hQ
  obtain ⟨g, L, zz, hsh, D, i, B, tu, un, s, ga, v, TX⟩ := R'.ctx (X := X.ws 0) hg ht
  have T0 := TX.T.R.I.K.R
  have Nk := T0.nd k hk
  have x5 : h'.fr 105 o = some D.t := T0.xt
  have x2 : h'.fr 1602 D.t = some D.rl := T0.rw_
  have ends := K.ends hk
  have s40 : sz k ≤ 40 := by omega
  rw [x5, adr_some, x2, adr_some]
  refine ⟨nn_of rfl T0.tk, nn_of rfl T0.rl.k, pc_get (h := h'.srm 0 0) T0.rl hk (pu ⟨.inr (nn_of rfl Nk.k), R'.B.nn, 6, 82, ⟨by omega, by omega⟩, ?_⟩)⟩
  refine px_reader (h := h'.srm 6 82) R' (show n ≤ X.m by omega) rfl rfl ?_
  intro h2 F2 K2 R2 f3 f4 f11 z2 h3 e3
  have c3 : h3.c = h2.c := by rw [e3]; rfl
  have F3 : Fr (WR0 o) h'.c h3.c := by rw [c3]; exact F2
  have R3 : CRep h3.c o jn tpa (X.ws 0).rd := by rw [c3]; exact R2
  have K3 : RdK h3.c h'.c.lo h'.sz o jn tpa X.tp n (tok X.tp n 0) := by rw [c3]; exact K2
  have rc3 : h3.rc = h.rc - 6 := by rw [e3]; show h'.rc - 6 = _; omega
  have rs3 : h3.rs = h.rs - 82 := by rw [e3]; show h'.rs - 82 = _; omega
  have hz : (h'.srm 6 82).sz = h'.sz := rfl
  rw [hz]
  have TX3 := TX.keepG R'.B.l F3 (fun f a hh => .inl (by have := hh.2; omega))
  have T3 := TX3.T.R.I.K.R
  have C3 := TX3.C.up TX3.zs
  have N3 := T3.nd k hk
  have SY := C3.X.S.sy _ (K.WF.smS C3.W hk)
  rw [adr_some (D.r k)]
  refine ⟨nn_of rfl N3.k, px_kind (h := h3.srm 0 0) K.WF C3.W C3.X.S T3 hk (pu ?_)⟩
  have y5 : h3.fr 105 o = some D.t := T3.xt
  have y2 : h3.fr 1602 D.t = some D.rl := T3.rw_
  have yd : h3.fi 1503 (D.r k) = I (V.dp k) := N3.dp
  have dk : V.dp k < 12 := (K.nd k hk).d
  rw [y5, adr_some, y2, adr_some, yd]
  refine ⟨nn_of rfl N3.k, R3.B.nn, nn_of rfl T3.tk, nn_of rfl T3.rl.k, pc_size (h := h3.srm 0 0) T3.rl (pu ⟨nn_of rfl N3.k, sz k, 4 * sz k, ⟨by omega, by omega⟩, ?_⟩)⟩
  refine px_below K 15 k (h3.srm (sz k) (4 * sz k)) _ hk (by omega) T3 (Nat.le_refl _) (Nat.le_refl _) ?_
  intro h40' F40 _ _ h41 e41
  have F41 : Fr W0 h3.c h41.c := by rw [e41]; exact F40
  have rc41 : h41.rc = h.rc - 6 - sz k := by rw [e41]; show h3.rc - _ = _; omega
  have rs41 : h41.rs = h.rs - 82 - 4 * sz k := by rw [e41]; show h3.rs - _ = _; omega
  have R41 : CRep h41.c o jn tpa (X.ws 0).rd := R3.w0 F41
  have TX41 := TX3.keepG R3.B.l F41 (fun _ _ hh => hh.elim)
  have T41 := TX41.T.R.I.K.R
  have C41 := TX41.C.up TX41.zs
  have K41 : RdK h41.c h'.c.lo h'.sz o jn tpa X.tp n (tok X.tp n 0) := K3.keep0 F41
  have f11' : h41.c.fi 311 h'.sz = 0 := by
    have l : h'.sz < h3.c.sz := by rw [c3]; exact z2
    rw [F41.fi _ _ l id, c3]; exact f11
  have ND : NdC h41.c h'.c.lo h'.sz o jn tpa X.tp n L A g 0 (tok X.tp n 0) := ⟨K41, C41.grc, TX41.f3, f11'⟩
  rw [adr_some, show I V.n - I (sz k) = I (V.n - sz k) from I_sub (by omega)]
  refine ⟨nn_of rfl K41.R.k, ?_⟩
  refine g_whole (need := some (V.sm A.g k)) (oth := V.n - sz k) (dp := V.dp k) ND rfl (by omega) (by omega) (fun s' e => ?_) (by omega) (by omega) ?_ ?_
  · rw [← Option.some.inj e]; exact K.WF.smS C3.W hk
  · intro P eP h4 D1 F4 RR4 S4 rc4 rs4
    rw [eP] at hQ
    dsimp only at hQ
    obtain ⟨KP, hP40, hneed, hdp⟩ := pTr_ok C41.W (by omega) eP
    have hsy : A.g.sy (P.V.pd 0) 0 = A.g.sy (V.pd k) 0 := by
      rcases hneed with e | e
      · exact absurd e (by simp)
      · exact (Option.some.inj e).symm
    have R4 : CRep h4.c o jn tpa (X.ws 0).rd := R41.go F4 (fun f a hh => hh.okq K41.L) (R41.Y.kp R41.B F4 (fun f h1 h2 hh => by have := hh.2; omega) (fun hh => by have := hh.2; omega)) R41.ok rfl rfl rfl
    have TX4 := TX41.keepG R41.B.l F4 (fun f a hh => (hh.okq K41.L).1)
    have m1 := KP.n1
    have Z := spl_R (V := V) (sz := sz) (k := k) (P := P) ends.1 m1 ends.2
    have znn := Z.nn
    have KN := Z.trK K KP hk (by omega) hsy hdp
    have G : GrK A V sz k P (V.spl sz k P) (splZ sz k P) := ⟨Z, K, KP, KN, hk, hsy, C41.W, C41.Y⟩
    have d0' : (V.spl sz k P).dp 0 = 0 := by
      by_cases e : k = 0
      · have := Z.dpP 0 m1
        rw [e] at this hdp
        rw [e]
        exact this.trans (hdp.trans d0)
      · have := Z.dp 0 (.inl (Nat.zero_le _)) (fun hh => e hh.symm)
        rw [rnU_le (Nat.zero_le _)] at this
        exact this.trans d0
    have E : GrH h4.c o jn tpa (X.ws 0).rd L A g ind V (V.spl sz k P) sz (splZ sz k P) gv D D1 k P zz i ga h41.sz hsh B tu un s v := by
      refine ⟨R4.ok, R4.B, R4.Y, R4.Z, R4.J, R4.CI, hg, TX4.f3, TX4.zl, TX4.zs, TX4.C, TX4.f4, TX4.H, fun x sm e => (TX41.H x sm e).ml, TX4.N, G, d0', TX4.T, S4, F4.sz, TX41.zs, fun j hj => ?_, ?_⟩
      · have Nj := T41.nd j hj
        exact ⟨Nj.l, Nj.ls.al, Nj.ls.dl, Nj.vl⟩
      · exact ⟨T41.tl, T41.rl.al, T41.rl.dl, TX41.T.R.Gn.l, T41.xl⟩
    refine ⟨R4.B.nn, 144, 9312, ⟨by omega, by omega⟩, px_grafts (h := h4.srm 144 9312) E (Nat.le_refl _) (Nat.le_refl _) ?_⟩
    intro h62 R62 h63 e63
    have R63 : CRep h63.c o jn tpa (((X.ws 0).rd).cg A (V.spl sz k P) (splZ sz k P) gv (gDue (istO A.g V gv) k (sz k) P.V.n (A.g.ins (V.sm A.g k))) (gNew k P.V.n) (gOld (istO A.g V gv).val k (sz k) P.V.n)) := by rw [e63]; exact R62
    obtain ⟨g9, L9, z9, D9, i9, B9, tu9, un9, s9, ga9, v9, b1, C9, T9⟩ := R63.tx (V := V.spl sz k P) (sz := splZ sz k P) (gv := gv) hg rfl
    have TT9 := T9.R.I.K.R
    have w5 : h63.fr 105 o = some D9.t := TT9.xt
    have w2 : h63.fr 1602 D9.t = some D9.rl := TT9.rw_
    rw [w5, adr_some, w2, adr_some]
    refine ⟨R63.B.nn, nn_of rfl TT9.tk, nn_of rfl TT9.rl.k, pc_size (h := h63.srm 0 0) TT9.rl (pu ?_)⟩
    refine hQ h63 ?_
    rw [← hg, ← ht]
    exact R63
  · intro e eE w h4 F4 T4
    rw [eE] at hQ
    dsimp only at hQ
    have R4 : CRep h4.c o jn tpa (X.ws 0).rd := R41.go F4 (fun f a hh => hh.okq K41.L) (R41.Y.kp R41.B F4 (fun f h1 h2 hh => by have := hh.2; omega) (fun hh => by have := hh.2; omega)) R41.ok rfl rfl rfl
    refine ⟨R4.B.nn, px_wrong R4 T4 (fun h5 R5 => hQ h5 ?_)⟩
    rw [← hg, ← ht]
    exact R5
end
