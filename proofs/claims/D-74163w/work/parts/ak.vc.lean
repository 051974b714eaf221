/-! plain: vc -/
set_option maxRecDepth 100000
section
variable {h : AH} {o jn tpa : Nat} {X : AX} {x y z : Int32} {L : GA} {A : PG} {g : Nat} {ind : Nat → Int32} {Q : Int32 → AH → Prop}

theorem px_isInR {m : Nat} {hi : Int32} (hm : m < 2147483648) (e : hi = I m - 1) (hQ : Q (iP (inR x m)) h) : wp_X0_isIn x 0 hi h Q := by
  refine px_isIn ?_
  rw [e]
  by_cases hr : inR x m
  · rw [if_pos ((inR_iff hm).2 hr)]
    rw [iP_pos hr] at hQ
    exact hQ
  · rw [if_neg (fun hh => hr ((inR_iff hm).1 hh))]
    rw [iP_neg hr] at hQ
    exact hQ
theorem CRep.cg {c : HC} (R : CRep c o jn tpa X) (hg : X.gr = some (A, ind)) : ∃ g L, c.fr 103 o = some g ∧ CgR c L A g ind := by
  obtain ⟨g, L, z, hs, a1, a2, a3, _⟩ := R.g1 A ind hg
  exact ⟨g, L, a1, a3.up a2.2⟩
theorem CRep.tx {c : HC} (R : CRep c o jn tpa X) (hg : X.gr = some (A, ind)) {V : Tv} {sz : Nat → Nat} {gv : Nat → Int32} (ht : X.tr = some (V, sz, gv)) : ∃ g L z D i B tu un s ga v, c.fr 103 o = some g ∧ CgR c L A g ind ∧ TrX c L A V gv o z D i B tu un s ga v := by
  obtain ⟨g, L, z, hs, a1, a2, a3, _, _, a6⟩ := R.g1 A ind hg
  obtain ⟨D, i, B, tu, un, s, ga, v, K, _⟩ := a6 V sz gv ht
  exact ⟨g, L, z, D, i, B, tu, un, s, ga, v, a1, a3.up a2.2, K⟩
/-- all that is known of a tree. -/
def CTx (c : HC) (o : Nat) (A : PG) (ind : Nat → Int32) (V : Tv) (gv : Nat → Int32) (g : Nat) (L : GA) (z : Nat) (hs : Option (Nat × Nat)) (D : TA) (i : Nat) (B : IA) (tu un : Nat) (s : TjS) (ga : Nat) (v : Vl) : Prop :=
  (c.fr 103 o = some g) ∧
  (c.lo ≤ z) ∧
  (z ≤ c.sz) ∧
  (CgR (c.cut z) L A g ind) ∧
  (c.fr 104 o = hs.map Prod.fst) ∧
  (∀ x sm, hs = some (x, sm) → ShR c x sm A.g) ∧
  (TrX c L A V gv o z D i B tu un s ga v) ∧
  (∀ x sm, hs = some (x, sm) → ∀ k, k < V.n → D.va k ≠ sm)
theorem CTx.f3 {c : HC} {o : Nat} {A : PG} {ind : Nat → Int32} {V : Tv} {gv : Nat → Int32} {g : Nat} {L : GA} {z : Nat} {hs : Option (Nat × Nat)} {D : TA} {i : Nat} {B : IA} {tu un : Nat} {s : TjS} {ga : Nat} {v : Vl} (h9 : CTx c o A ind V gv g L z hs D i B tu un s ga v) : c.fr 103 o = some g := h9.1
theorem CTx.zl {c : HC} {o : Nat} {A : PG} {ind : Nat → Int32} {V : Tv} {gv : Nat → Int32} {g : Nat} {L : GA} {z : Nat} {hs : Option (Nat × Nat)} {D : TA} {i : Nat} {B : IA} {tu un : Nat} {s : TjS} {ga : Nat} {v : Vl} (h9 : CTx c o A ind V gv g L z hs D i B tu un s ga v) : c.lo ≤ z := h9.2.1
theorem CTx.zs {c : HC} {o : Nat} {A : PG} {ind : Nat → Int32} {V : Tv} {gv : Nat → Int32} {g : Nat} {L : GA} {z : Nat} {hs : Option (Nat × Nat)} {D : TA} {i : Nat} {B : IA} {tu un : Nat} {s : TjS} {ga : Nat} {v : Vl} (h9 : CTx c o A ind V gv g L z hs D i B tu un s ga v) : z ≤ c.sz := h9.2.2.1
theorem CTx.C {c : HC} {o : Nat} {A : PG} {ind : Nat → Int32} {V : Tv} {gv : Nat → Int32} {g : Nat} {L : GA} {z : Nat} {hs : Option (Nat × Nat)} {D : TA} {i : Nat} {B : IA} {tu un : Nat} {s : TjS} {ga : Nat} {v : Vl} (h9 : CTx c o A ind V gv g L z hs D i B tu un s ga v) : CgR (c.cut z) L A g ind := h9.2.2.2.1
theorem CTx.f4 {c : HC} {o : Nat} {A : PG} {ind : Nat → Int32} {V : Tv} {gv : Nat → Int32} {g : Nat} {L : GA} {z : Nat} {hs : Option (Nat × Nat)} {D : TA} {i : Nat} {B : IA} {tu un : Nat} {s : TjS} {ga : Nat} {v : Vl} (h9 : CTx c o A ind V gv g L z hs D i B tu un s ga v) : c.fr 104 o = hs.map Prod.fst := h9.2.2.2.2.1
theorem CTx.H {c : HC} {o : Nat} {A : PG} {ind : Nat → Int32} {V : Tv} {gv : Nat → Int32} {g : Nat} {L : GA} {z : Nat} {hs : Option (Nat × Nat)} {D : TA} {i : Nat} {B : IA} {tu un : Nat} {s : TjS} {ga : Nat} {v : Vl} (h9 : CTx c o A ind V gv g L z hs D i B tu un s ga v) : ∀ x sm, hs = some (x, sm) → ShR c x sm A.g := h9.2.2.2.2.2.1
theorem CTx.T {c : HC} {o : Nat} {A : PG} {ind : Nat → Int32} {V : Tv} {gv : Nat → Int32} {g : Nat} {L : GA} {z : Nat} {hs : Option (Nat × Nat)} {D : TA} {i : Nat} {B : IA} {tu un : Nat} {s : TjS} {ga : Nat} {v : Vl} (h9 : CTx c o A ind V gv g L z hs D i B tu un s ga v) : TrX c L A V gv o z D i B tu un s ga v := h9.2.2.2.2.2.2.1
theorem CTx.N {c : HC} {o : Nat} {A : PG} {ind : Nat → Int32} {V : Tv} {gv : Nat → Int32} {g : Nat} {L : GA} {z : Nat} {hs : Option (Nat × Nat)} {D : TA} {i : Nat} {B : IA} {tu un : Nat} {s : TjS} {ga : Nat} {v : Vl} (h9 : CTx c o A ind V gv g L z hs D i B tu un s ga v) : ∀ x sm, hs = some (x, sm) → ∀ k, k < V.n → D.va k ≠ sm := h9.2.2.2.2.2.2.2
theorem CRep.ctx {c : HC} (R : CRep c o jn tpa X) (hg : X.gr = some (A, ind)) {V : Tv} {sz : Nat → Nat} {gv : Nat → Int32} (ht : X.tr = some (V, sz, gv)) : ∃ g L z hs D i B tu un s ga v, CTx c o A ind V gv g L z hs D i B tu un s ga v := by
  obtain ⟨g, L, z, hs, a1, a2, a3, a4, a5, a6⟩ := R.g1 A ind hg
  obtain ⟨D, i, B, tu, un, s, ga, v, K, hh⟩ := a6 V sz gv ht
  exact ⟨g, L, z, hs, D, i, B, tu, un, s, ga, v, a1, a2.1, a2.2, a3, a4.1, a4.2, K, hh⟩
theorem CRep.ofT {c : HC} {V : Tv} {sz : Nat → Nat} {gv : Nat → Int32} {g : Nat} {L : GA} {z : Nat} {hs : Option (Nat × Nat)} {D : TA} {i : Nat} {B : IA} {tu un : Nat} {s : TjS} {ga : Nat} {v : Vl} (ok : X.OK) (B0 : CbR c o jn tpa) (Y0 : CtR c o tpa X) (Z0 : CoR c) (J0 : NzJ c) (CI : CsI c) (hg : X.gr = some (A, ind)) (ht : X.tr = some (V, sz, gv)) (T : CTx c o A ind V gv g L z hs D i B tu un s ga v) (an : (X.an = none → c.fi 110 o = -1) ∧ ∀ a b, X.an = some (a, b) → c.fi 110 o = I a ∧ c.fi 111 o = I b ∧ a < 1000) : CRep c o jn tpa X := by
  refine ⟨ok, B0, Y0, Z0, J0, CI, Nat.le_trans T.zl T.zs, fun hn => absurd (hn.symm.trans hg) (by simp), fun A' ind' hg' => ?_, fun _ => an⟩
  have e := hg'.symm.trans hg
  obtain ⟨e1, e2⟩ := Prod.mk.inj (Option.some.inj e)
  subst e1 e2
  refine ⟨g, L, z, hs, T.f3, ⟨T.zl, T.zs⟩, T.C, ⟨T.f4, T.H⟩, fun hn => absurd (hn.symm.trans ht) (by simp), fun V' sz' gv' ht' => ?_⟩
  have e' := ht'.symm.trans ht
  obtain ⟨e3, e4⟩ := Prod.mk.inj (Option.some.inj e')
  obtain ⟨e5, e6⟩ := Prod.mk.inj e4
  subst e3 e5 e6
  exact ⟨D, i, B, tu, un, s, ga, v, T.T, T.N⟩
theorem CRep.gt {c : HC} (R : CRep c o jn tpa X) {V : Tv} {sz : Nat → Nat} {gv : Nat → Int32} (ht : X.tr = some (V, sz, gv)) : ∃ A ind, X.gr = some (A, ind) ∧ trK A V sz := by
  obtain ⟨A, ind, hg, K, _⟩ := R.ok.t V sz gv ht
  exact ⟨A, ind, hg, K⟩
theorem CRep.t0 {c : HC} (R : CRep c o jn tpa X) (ht : X.tr = none) : c.fr 105 o = none := by
  cases hg : X.gr with
  | none => exact (R.g0 hg).2
  | some q =>
    obtain ⟨A, ind⟩ := q
    obtain ⟨g, L, z, hs, _, _, _, _, a5, _⟩ := R.g1 A ind hg
    exact a5 ht
theorem qc0 (R : CRep h.c o jn tpa X) {s : Int32} {P : Int32 → AH → Prop} (hP : ∀ h', CRep h'.c o jn tpa (X.ws s) → h'.rc = h.rc → h'.rs = h.rs → P (if s = 0 then 1 else 0) h') : wp_X0_can o s (h.srm 0 0) fun r h8 => ∀ h9, h9 = h8.srm h.rc h.rs → P r h9 :=
  q_can (h := h.srm 0 0) R (fun h' R' F c s h9 e9 => by rw [e9]; exact hP _ R' rfl rfl)
theorem qn0 (R : CRep h.c o jn tpa X) {s : Int32} {P : Int32 → AH → Prop} (hP : ∀ h', CRep h'.c o jn tpa (X.ws s) → P (-1) h') : wp_X0_none o s (h.srm 0 0) fun r h8 => ∀ h9, h9 = h8.srm h.rc h.rs → P r h9 :=
  q_none (h := h.srm 0 0) R (fun h' R' c s h9 e9 => by rw [e9]; exact hP _ R')
theorem okS_iff (hg : X.gr = some (A, ind)) : okS X x ↔ inR x A.g.nS := ⟨fun ⟨A', i', e, h'⟩ => by rw [hg] at e; have := Option.some.inj e; rw [← (Prod.mk.inj this).1] at h'; exact h', fun h' => ⟨A, ind, hg, h'⟩⟩
theorem okP_iff (hg : X.gr = some (A, ind)) : okP X x ↔ inR x A.g.nP := ⟨fun ⟨A', i', e, h'⟩ => by rw [hg] at e; have := Option.some.inj e; rw [← (Prod.mk.inj this).1] at h'; exact h', fun h' => ⟨A, ind, hg, h'⟩⟩
theorem okA_iff (hg : X.gr = some (A, ind)) : okA X x y ↔ inR x A.g.nS ∧ inR y (A.g.cnt (ni x)) := ⟨fun ⟨A', i', e', h'⟩ => by rw [hg] at e'; have := Option.some.inj e'; rw [← (Prod.mk.inj this).1] at h'; exact h', fun h' => ⟨A, ind, hg, h'⟩⟩
theorem okO_iff (hg : X.gr = some (A, ind)) : okO X x y ↔ inR x A.g.nP ∧ 0 ≤ y ∧ A.g.oc (ni x) (ni y) := ⟨fun ⟨A', i', e', h'⟩ => by rw [hg] at e'; have := Option.some.inj e'; rw [← (Prod.mk.inj this).1] at h'; exact h', fun h' => ⟨A, ind, hg, h'⟩⟩
theorem bz_iP {p : Prop} {m : Int32} (hm : m = if iP p = 0 then 0 else 1) : m = iP p ∧ bz m := by
  by_cases hp : p
  · rw [iP_pos hp, if_neg (by decide)] at hm
    rw [iP_pos hp]; exact ⟨hm, .inr hm⟩
  · rw [iP_neg hp, if_pos rfl] at hm
    rw [iP_neg hp]; exact ⟨hm, .inl hm⟩
theorem px_isSymbolR (R : CRep h.c o jn tpa X) (hQ : Q (iP (okS X x)) h) : wp_X0_isSymbol o x h Q := by
  unfold wp_X0_isSymbol
  refine ⟨R.B.nn, ?_⟩
  cases hg : X.gr with
  | none =>
    rw [iP_neg (fun ⟨A, ind, e, _⟩ => by rw [hg] at e; exact absurd e (by simp))] at hQ
    exact brT (R.g0 hg).1 hQ
  | some q =>
    obtain ⟨A, ind⟩ := q
    obtain ⟨g, L, a1, C⟩ := R.cg hg
    have a1' : h.fr 103 o = some g := a1
    have s1 : h.fr 400 g = some L.sl := C.X.O.s1
    have := C.W.nS
    rw [a1', adr_some, s1, adr_some]
    refine brF (by simp) ⟨nn_of rfl C.X.O.k, nn_of rfl C.X.O.s2.k, ?_⟩
    refine pc_size (h := h.srm 0 0) C.X.O.s2 (pu ?_)
    refine px_isInR (h := h.srm 0 0) (m := A.g.nS) (by omega) rfl (pu ?_)
    intro m hm
    obtain ⟨e1, e2⟩ := bz_iP hm
    rw [iP_congr (okS_iff hg), ← e1] at hQ
    exact ⟨e2, hQ⟩
theorem px_isProductionR (R : CRep h.c o jn tpa X) (hQ : Q (iP (okP X x)) h) : wp_X0_isProduction o x h Q := by
  unfold wp_X0_isProduction
  refine ⟨R.B.nn, ?_⟩
  cases hg : X.gr with
  | none =>
    rw [iP_neg (fun ⟨A, ind, e, _⟩ => by rw [hg] at e; exact absurd e (by simp))] at hQ
    exact brT (R.g0 hg).1 hQ
  | some q =>
    obtain ⟨A, ind⟩ := q
    obtain ⟨g, L, a1, C⟩ := R.cg hg
    have a1' : h.fr 103 o = some g := a1
    have s1 : h.fr 401 g = some L.pl := C.X.O.p1
    have := C.W.nP
    rw [a1', adr_some, s1, adr_some]
    refine brF (by simp) ⟨nn_of rfl C.X.O.k, nn_of rfl C.X.O.p2.k, ?_⟩
    refine pc_size (h := h.srm 0 0) C.X.O.p2 (pu ?_)
    refine px_isInR (h := h.srm 0 0) (m := A.g.nP) (by omega) rfl (pu ?_)
    intro m hm
    obtain ⟨e1, e2⟩ := bz_iP hm
    rw [iP_congr (okP_iff hg), ← e1] at hQ
    exact ⟨e2, hQ⟩
theorem px_isAttributeR (R : CRep h.c o jn tpa X) (hQ : Q (iP (okA X x y)) h) : wp_X0_isAttribute o x y h Q := by
  unfold wp_X0_isAttribute
  refine ⟨R.B.nn, px_isSymbolR (h := h.srm 0 0) R (pu ?_)⟩
  by_cases hs : okS X x
  rotate_left
  · rw [iP_neg hs]
    rw [iP_neg (fun ⟨A, ind, e, h', _⟩ => hs ⟨A, ind, e, h'⟩)] at hQ
    exact brT rfl hQ
  rw [iP_pos hs]
  obtain ⟨A, ind, hg, hr⟩ := hs
  obtain ⟨g, L, a1, C⟩ := R.cg hg
  have a1' : h.fr 103 o = some g := a1
  have s1 : h.fr 400 g = some L.sl := C.X.O.s1
  have hS := C.W.nS
  rw [a1', adr_some, s1, adr_some]
  have hq : okA X x y ↔ inR y (A.g.cnt (ni x)) := ⟨fun hh => ((okA_iff hg).1 hh).2, fun hh => (okA_iff hg).2 ⟨hr, hh⟩⟩
  rw [iP_congr hq] at hQ
  obtain ⟨k, hk, rfl⟩ := hr
  rw [I_ni (by omega)] at hQ
  have SY := C.X.S.sy k hk
  have := C.W.cnt8 hk
  refine brF (by decide) ⟨R.B.nn, nn_of rfl C.X.O.k, nn_of rfl C.X.O.s2.k, ?_⟩
  refine pc_get (h := h.srm 0 0) C.X.O.s2 hk (pu ⟨.inr (nn_of rfl SY.k), nn_of rfl SY.k, ?_⟩)
  rw [adr_some]
  refine px_count (h := h.srm 0 0) SY (pu ?_)
  refine px_isInR (h := h.srm 0 0) (m := A.g.cnt k) (by omega) rfl (pu ?_)
  intro m hm
  obtain ⟨e1, e2⟩ := bz_iP hm
  rw [← e1] at hQ
  exact ⟨e2, hQ⟩
/-- nothing but the iterator is written. -/
def WIt (b0 : Nat) : Nat → Nat → Prop := fun f b => b = b0 ∧ (f = 2400 ∨ f = 2401)
/-- a loop over a list that writes nothing. -/
theorem each0 {σ : Type} {a d m n : Nat} {xx : Nat → Nat} (Y : Ls h.c a d m n xx) (hr : 1 ≤ h.rc) (hs : 4 ≤ h.rs) {E : σ → AH → Prop} {Bd : σ → Option Nat → AH → (σ → AH → Prop) → Prop} {s0 : σ} (Inv : Nat → σ → Prop) (h0 : Inv 0 s0)
    (hE : ∀ s h', Inv n s → Fr W0 h.c h'.c → E s h') (hB : ∀ i s h' K, i < n → Inv i s → Fr W0 h.c h'.c → (∀ s', Inv (i + 1) s' → K s' h') → Bd s (some (xx i)) h' K) :
    cl h fun mc ms => wp_J12_iterator a (h.srm mc ms) fun r4 h5 => ∀ h6, h6 = h5.srm (h.rc - mc) (h.rs - ms) →
    xlp (σ := σ) (fun s T k => xjn (α := Int32) (fun J =>
      ((nn T r4 24 ∧ wp_J16_hasNext (adr r4) (T.srm 0 0) fun r h' => ∀ h'', h'' = h'.srm T.rc T.rs → J r h'') ∨
       (nn T r4 20 ∧ wp_X20_hasNext (adr r4) (T.srm 0 0) fun r h' => ∀ h'', h'' = h'.srm T.rc T.rs → J r h''))) (fun r14 h15 =>
      ((r14 = 0 → E s h15) ∧ (¬ r14 = 0 →
      xjn (α := Option Nat) (fun J =>
      ((nn h15 r4 24 ∧ cl h15 fun mc ms => wp_J16_next (adr r4) (h15.srm mc ms) fun r h' => ∀ h'', h'' = h'.srm (h15.rc - mc) (h15.rs - ms) → J r h'') ∨
       (nn h15 r4 20 ∧ cl h15 fun mc ms => wp_X20_next (adr r4) (h15.srm mc ms) fun r h' => ∀ h'', h'' = h'.srm (h15.rc - mc) (h15.rs - ms) → J r h''))) (fun r19 h20 => Bd s r19 h20 k))))) s0 h6 := by
  have hal : a < h.sz := Y.al
  refine ⟨1, 4, ⟨hr, hs⟩, ?_⟩
  refine pc_iterator (h := h.srm 1 4) Y (Nat.le_refl _) (Nat.le_refl _) ?_
  intro h5 F5 I5 z5 _ _
  rintro h6 e6
  have F6 : Fr W0 h.c h6.c := by rw [e6]; exact F5
  have I6 : It h6.c h.sz a 0 := by rw [e6]; exact I5
  refine xlp_cnt n (fun i s U => Inv i s ∧ Fr W0 h.c U.c ∧ It U.c h.sz a i) ⟨h0, F6, I6⟩ ?_
  rintro i s U K hi ⟨v1, FU, IU⟩ hK
  have YU := Y.keep FU id id id
  rw [adr_some]
  refine ⟨fun r V => r = (if i = n then 0 else 1) ∧ V = U, .inl ⟨nn_of rfl IU.k, pc_hasNext (h := U.srm 0 0) YU IU hi (pu ⟨rfl, rfl⟩)⟩, ?_⟩
  rintro r V ⟨rfl, rfl⟩
  by_cases ei : i = n
  · subst ei
    rw [if_pos rfl]
    exact brT rfl (hE s V v1 FU)
  rw [if_neg ei]
  have hin : i < n := by omega
  refine brF (by decide) ⟨fun r V2 => r = some (xx i) ∧ Fr W0 h.c V2.c ∧ It V2.c h.sz a (i + 1), .inl ⟨nn_of rfl IU.k, 0, 0, ⟨Nat.zero_le _, Nat.zero_le _⟩, ?_⟩, ?_⟩
  · refine pc_next (h := V.srm 0 0) YU IU hin (by omega) ?_
    intro h' F' It' _ _ z' h'' e''
    refine ⟨rfl, ?_, by rw [e'']; exact It'⟩
    rw [e'']
    exact FU.trans' F' (fun f b hb hw => by
      have h1 := hw.1
      have h3 : b < h.sz := hb
      omega)
  · rintro r V2 ⟨rfl, F2, I2⟩
    exact hB i s V2 K hin v1 F2 (fun s' hv => hK _ _ hin ⟨hv, F2, I2⟩)
end
