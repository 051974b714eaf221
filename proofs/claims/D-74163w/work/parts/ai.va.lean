/-! plain: va -/
set_option maxRecDepth 100000
section
variable {h : AH} {lo q o jn tpa : Nat} {tp : Nat → Nat} {n : Nat} {t : Tk} {L : GA} {A : PG} {g : Nat} {D D' : TA} {G : Gv} {T V : Tv} {sz : Nat → Nat} {ind : Nat → Int32}

/-- a heap as if it ended at z. -/
def HC.cut (c : HC) (z : Nat) : HC := (c.kd, c.fi, c.fr, c.ai, c.ar, z, c.bs)
theorem cut_up (c : HC) {z : Nat} (hz : z ≤ c.sz) : Fr W0 (c.cut z) c := ⟨hz, rfl, fun _ _ => rfl, fun _ _ _ _ => rfl, fun _ _ _ _ => rfl, fun _ _ _ => rfl, fun _ _ _ => rfl⟩
theorem cut_fr {W : Nat → Nat → Prop} {c c' : HC} {z : Nat} (hz : z ≤ c.sz) (F : Fr W c c') : Fr (fun f a => W f a ∧ a < z) (c.cut z) (c'.cut z) :=
  ⟨Nat.le_refl _, F.bs, fun a ha => F.kd a (Nat.lt_of_lt_of_le ha hz), fun f a ha hw => F.fi f a (Nat.lt_of_lt_of_le ha hz) (fun hh => hw ⟨hh, ha⟩), fun f a ha hw => F.fr f a (Nat.lt_of_lt_of_le ha hz) (fun hh => hw ⟨hh, ha⟩), fun a ha hw => F.ai a (Nat.lt_of_lt_of_le ha hz) (fun hh => hw ⟨hh, ha⟩), fun a ha hw => F.ar a (Nat.lt_of_lt_of_le ha hz) (fun hh => hw ⟨hh, ha⟩)⟩
theorem PnR.keepB {W : Nat → Nat → Prop} {c c' : HC} (N : PnR c L A g) (F : Fr W c c') (hf : ∀ f a, f = 401 ∨ f = 700 ∨ f = 2301 ∨ f = 2302 ∨ f = 2200 ∨ f = 2201 → ¬ W f a) (h0 : ∀ a m, c.kd a = (44, m) → ¬ W 0 a) (h1 : ∀ a m, c.kd a = (41, m) → m ≤ 8 → ¬ W 0 a) (hp8 : ∀ p, p < A.g.nP → (A.pn p).length ≤ 8) : PnR c' L A g := by
  refine ⟨by rw [F.kd _ N.l]; exact N.k, Nat.lt_of_lt_of_le N.l F.sz, by rw [F.fr _ _ N.l (hf _ _ (by simp))]; exact N.p1, N.p2.keep F (hf _ _ (by simp)) (hf _ _ (by simp)) (h0 _ _ N.p2.dk), N.nb, fun p hp => ⟨by rw [F.kd _ (N.pk p hp).2]; exact (N.pk p hp).1, Nat.lt_of_lt_of_le (N.pk p hp).2 F.sz⟩, fun p hp => ?_⟩
  obtain ⟨a, v, e1, e2⟩ := N.n1 p hp
  exact ⟨a, v, by rw [F.fr _ _ (N.pk p hp).2 (hf _ _ (by simp))]; exact e1, e2.keep F (hf _ _ (by simp)) (hf _ _ (by simp)) (h1 _ _ e2.vk (hp8 p hp))⟩
theorem CgR.keep {W : Nat → Nat → Prop} {c c' : HC} (C : CgR c L A g ind) (F : Fr W c c') (hW : ∀ f a, W f a → ((100 ≤ f ∧ f < 400) ∨ f = 2202 ∨ f = 2203 ∨ (1300 ≤ f ∧ f < 2100)) ∨ (f = 0 ∧ c.kd a = (41, 1000))) : CgR c' L A g ind := by
  have nf : ∀ f a, f ≠ 0 ∧ (f < 100 ∨ 400 ≤ f ∧ f < 1300 ∨ 2100 ≤ f) ∧ f ≠ 2202 ∧ f ≠ 2203 → ¬ W f a := fun f a h1 hh => by
    rcases hW f a hh with h | h <;> omega
  have nz : ∀ {a t m : Nat}, c.kd a = (t, m) → t ≠ 41 → ¬ W 0 a := fun {a t m} hk ht hh => by
    rcases hW 0 a hh with h | h
    · omega
    · rw [hk] at h; exact ht (Prod.mk.inj h.2).1
  have n8 : ∀ a m, c.kd a = (41, m) → m ≤ 8 → ¬ W 0 a := fun a m hk hm hh => by
    rcases hW 0 a hh with h | h
    · omega
    · rw [hk] at h
      have := (Prod.mk.inj h.2).2
      omega
  have S := C.X.S
  have O := C.X.O
  have gw : GW W L A.g := ⟨fun a => ⟨nf _ _ (by decide), nf _ _ (by decide), nf _ _ (by decide), nf _ _ (by decide), nf _ _ (by decide), nf _ _ (by decide)⟩, fun s _ => nf _ _ (by decide), fun p hp => ⟨nf _ _ (by decide), nf _ _ (by decide), nz (S.pr p hp).sl.dk (by decide), nz (S.pr p hp).k2 (by decide)⟩⟩
  refine ⟨⟨S.keep F gw, ⟨by rw [F.kd _ O.l]; exact O.k, Nat.lt_of_lt_of_le O.l F.sz, by rw [F.fr _ _ O.l (nf _ _ (by decide))]; exact O.s1, O.s2.keep F (nf _ _ (by decide)) (nf _ _ (by decide)) (nz O.s2.dk (by decide)), by rw [F.fr _ _ O.l (nf _ _ (by decide))]; exact O.p1, O.p2.keep F (nf _ _ (by decide)) (nf _ _ (by decide)) (nz O.p2.dk (by decide)), fun p hp => by rw [F.fr _ _ (S.pr p hp).l (nf _ _ (by decide))]; exact O.q1 p hp, fun p hp => by rw [F.kd _ (O.q3 p hp)]; exact O.q2 p hp, fun p hp => Nat.lt_of_lt_of_le (O.q3 p hp) F.sz⟩⟩, C.D, C.I, ⟨C.F.di.keep S F (fun s hs => nz (S.sy s hs).i2 (by decide)), fun s hs => (C.F.vis s hs).keep (S.sy s hs) F (nf _ _ (by decide)) (nz (S.sy s hs).v2 (by decide)), by rw [F.fi _ _ O.l (nf _ _ (by decide))]; exact C.F.ci, by rw [F.fi _ _ O.l (nf _ _ (by decide))]; exact C.F.bl, fun hb p hp => ?_⟩, C.U.keep F (fun p hp => (S.pr p hp).l) (fun f a hh => nf f a (by omega)) (fun a ha => nz (t := (c.kd a).1) (m := (c.kd a).2) rfl (by omega)), C.N.keepB F (fun f a hh => nf f a (by omega)) (fun a m hk => nz hk (by decide)) n8 C.P, C.W, C.Y, C.P⟩
  obtain ⟨x, x1, x2, x3, x4⟩ := C.F.pl hb p hp
  exact ⟨x, x1, x2, by rw [F.fi _ _ (S.pr p hp).l (nf _ _ (by decide))]; exact x3, fun i hi => by rw [F.ai _ (O.q3 p hp) (nz (O.q2 p hp) (by decide))]; exact x4 i hi⟩
theorem CgR.up {c : HC} {z : Nat} (C : CgR (c.cut z) L A g ind) (hz : z ≤ c.sz) : CgR c L A g ind := C.keep (cut_up c hz) (fun _ _ hh => hh.elim)
theorem CgR.kc {W : Nat → Nat → Prop} {c c' : HC} {z : Nat} (C : CgR (c.cut z) L A g ind) (hz : z ≤ c.sz) (F : Fr W c c') (hW : ∀ f a, a < z → W f a → ((100 ≤ f ∧ f < 400) ∨ f = 2202 ∨ f = 2203 ∨ (1300 ≤ f ∧ f < 2100)) ∨ (f = 0 ∧ c.kd a = (41, 1000))) : CgR (c'.cut z) L A g ind := C.keep (cut_fr hz F) (fun f a hh => hW f a hh.2 hh.1)

/-- shades as they lie there. -/
def ShR (c : HC) (x sm : Nat) (G : Gv) : Prop :=
  ((c.kd x).1 = 14) ∧
  (x < c.sz) ∧
  (c.fr 1402 x = some sm) ∧
  (c.kd sm = (40, 8)) ∧
  (sm < c.sz) ∧
  (c.fi 1404 x = I (G.shE false)) ∧
  (c.fi 1405 x = if (G.shK (G.shE false)).cr = 0 then -1 else I (G.shK (G.shE false)).cr) ∧
  (c.fi 1406 x = if (G.shK (G.shE false)).mu then I (G.shE false) else -1) ∧
  (c.fi 1407 x = I (sN (G.shK (G.shE true)).mn 8)) ∧
  (∀ s, s < 8 → c.ai sm s = I ((G.shK (G.shE false)).mn s))
theorem ShR.k {c : HC} {x sm : Nat} {G : Gv} (h9 : ShR c x sm G) : (c.kd x).1 = 14 := h9.1
theorem ShR.l {c : HC} {x sm : Nat} {G : Gv} (h9 : ShR c x sm G) : x < c.sz := h9.2.1
theorem ShR.f {c : HC} {x sm : Nat} {G : Gv} (h9 : ShR c x sm G) : c.fr 1402 x = some sm := h9.2.2.1
theorem ShR.mk {c : HC} {x sm : Nat} {G : Gv} (h9 : ShR c x sm G) : c.kd sm = (40, 8) := h9.2.2.2.1
theorem ShR.ml {c : HC} {x sm : Nat} {G : Gv} (h9 : ShR c x sm G) : sm < c.sz := h9.2.2.2.2.1
theorem ShR.r4 {c : HC} {x sm : Nat} {G : Gv} (h9 : ShR c x sm G) : c.fi 1404 x = I (G.shE false) := h9.2.2.2.2.2.1
theorem ShR.r5 {c : HC} {x sm : Nat} {G : Gv} (h9 : ShR c x sm G) : c.fi 1405 x = if (G.shK (G.shE false)).cr = 0 then -1 else I (G.shK (G.shE false)).cr := h9.2.2.2.2.2.2.1
theorem ShR.r6 {c : HC} {x sm : Nat} {G : Gv} (h9 : ShR c x sm G) : c.fi 1406 x = if (G.shK (G.shE false)).mu then I (G.shE false) else -1 := h9.2.2.2.2.2.2.2.1
theorem ShR.r7 {c : HC} {x sm : Nat} {G : Gv} (h9 : ShR c x sm G) : c.fi 1407 x = I (sN (G.shK (G.shE true)).mn 8) := h9.2.2.2.2.2.2.2.2.1
theorem ShR.mn {c : HC} {x sm : Nat} {G : Gv} (h9 : ShR c x sm G) : ∀ s, s < 8 → c.ai sm s = I ((G.shK (G.shE false)).mn s) := h9.2.2.2.2.2.2.2.2.2
/-- a tree with its instances. -/
def TrX (c : HC) (L : GA) (A : PG) (V : Tv) (gv : Nat → Int32) (o z : Nat) (D : TA) (i : Nat) (B : IA) (tu un : Nat) (s : TjS) (ga : Nat) (v : Vl) : Prop :=
  (RkB c L D A.g V o i B tu un s ga gv) ∧
  (VaR c D V v) ∧
  (KnV (istO A.g V gv) s v (c.ai tu) (c.ai un) s.kts) ∧
  (VaD D V) ∧
  (∀ j k, j < V.n → k < V.n → (D.r j = D.r k → j = k) ∧ (D.cl j = D.cl k → j = k) ∧ (D.cd j = D.cd k → j = k)) ∧
  (c.fr 106 o = some i) ∧
  (c.fr 1600 D.t = some (D.r 0)) ∧
  (∀ k, k < V.n → D.cl k ≠ D.rl ∧ D.cd k ≠ D.rd) ∧
  (1 ≤ D.rm) ∧
  (∀ k, k < V.n → z ≤ D.r k ∧ z ≤ D.cl k ∧ z ≤ D.cd k ∧ z ≤ D.va k) ∧
  (z ≤ D.t ∧ z ≤ D.rl ∧ z ≤ D.rd ∧ z ≤ ga ∧ z ≤ i ∧ z ≤ tu ∧ z ≤ un ∧ z ≤ B.kn ∧ z ≤ B.od ∧ z ≤ B.lw ∧ z ≤ B.pi ∧ z ≤ B.ip ∧ z ≤ B.ik)
theorem TrX.R {c : HC} {L : GA} {A : PG} {V : Tv} {gv : Nat → Int32} {o z : Nat} {D : TA} {i : Nat} {B : IA} {tu un : Nat} {s : TjS} {ga : Nat} {v : Vl} (h9 : TrX c L A V gv o z D i B tu un s ga v) : RkB c L D A.g V o i B tu un s ga gv := h9.1
theorem TrX.Va {c : HC} {L : GA} {A : PG} {V : Tv} {gv : Nat → Int32} {o z : Nat} {D : TA} {i : Nat} {B : IA} {tu un : Nat} {s : TjS} {ga : Nat} {v : Vl} (h9 : TrX c L A V gv o z D i B tu un s ga v) : VaR c D V v := h9.2.1
theorem TrX.N {c : HC} {L : GA} {A : PG} {V : Tv} {gv : Nat → Int32} {o z : Nat} {D : TA} {i : Nat} {B : IA} {tu un : Nat} {s : TjS} {ga : Nat} {v : Vl} (h9 : TrX c L A V gv o z D i B tu un s ga v) : KnV (istO A.g V gv) s v (c.ai tu) (c.ai un) s.kts := h9.2.2.1
theorem TrX.dv {c : HC} {L : GA} {A : PG} {V : Tv} {gv : Nat → Int32} {o z : Nat} {D : TA} {i : Nat} {B : IA} {tu un : Nat} {s : TjS} {ga : Nat} {v : Vl} (h9 : TrX c L A V gv o z D i B tu un s ga v) : VaD D V := h9.2.2.2.1
theorem TrX.ij {c : HC} {L : GA} {A : PG} {V : Tv} {gv : Nat → Int32} {o z : Nat} {D : TA} {i : Nat} {B : IA} {tu un : Nat} {s : TjS} {ga : Nat} {v : Vl} (h9 : TrX c L A V gv o z D i B tu un s ga v) : ∀ j k, j < V.n → k < V.n → (D.r j = D.r k → j = k) ∧ (D.cl j = D.cl k → j = k) ∧ (D.cd j = D.cd k → j = k) := h9.2.2.2.2.1
theorem TrX.fi {c : HC} {L : GA} {A : PG} {V : Tv} {gv : Nat → Int32} {o z : Nat} {D : TA} {i : Nat} {B : IA} {tu un : Nat} {s : TjS} {ga : Nat} {v : Vl} (h9 : TrX c L A V gv o z D i B tu un s ga v) : c.fr 106 o = some i := h9.2.2.2.2.2.1
theorem TrX.rt {c : HC} {L : GA} {A : PG} {V : Tv} {gv : Nat → Int32} {o z : Nat} {D : TA} {i : Nat} {B : IA} {tu un : Nat} {s : TjS} {ga : Nat} {v : Vl} (h9 : TrX c L A V gv o z D i B tu un s ga v) : c.fr 1600 D.t = some (D.r 0) := h9.2.2.2.2.2.2.1
theorem TrX.rn {c : HC} {L : GA} {A : PG} {V : Tv} {gv : Nat → Int32} {o z : Nat} {D : TA} {i : Nat} {B : IA} {tu un : Nat} {s : TjS} {ga : Nat} {v : Vl} (h9 : TrX c L A V gv o z D i B tu un s ga v) : ∀ k, k < V.n → D.cl k ≠ D.rl ∧ D.cd k ≠ D.rd := h9.2.2.2.2.2.2.2.1
theorem TrX.rm {c : HC} {L : GA} {A : PG} {V : Tv} {gv : Nat → Int32} {o z : Nat} {D : TA} {i : Nat} {B : IA} {tu un : Nat} {s : TjS} {ga : Nat} {v : Vl} (h9 : TrX c L A V gv o z D i B tu un s ga v) : 1 ≤ D.rm := h9.2.2.2.2.2.2.2.2.1
theorem TrX.z1 {c : HC} {L : GA} {A : PG} {V : Tv} {gv : Nat → Int32} {o z : Nat} {D : TA} {i : Nat} {B : IA} {tu un : Nat} {s : TjS} {ga : Nat} {v : Vl} (h9 : TrX c L A V gv o z D i B tu un s ga v) : ∀ k, k < V.n → z ≤ D.r k ∧ z ≤ D.cl k ∧ z ≤ D.cd k ∧ z ≤ D.va k := h9.2.2.2.2.2.2.2.2.2.1
theorem TrX.z2 {c : HC} {L : GA} {A : PG} {V : Tv} {gv : Nat → Int32} {o z : Nat} {D : TA} {i : Nat} {B : IA} {tu un : Nat} {s : TjS} {ga : Nat} {v : Vl} (h9 : TrX c L A V gv o z D i B tu un s ga v) : z ≤ D.t ∧ z ≤ D.rl ∧ z ≤ D.rd ∧ z ≤ ga ∧ z ≤ i ∧ z ≤ tu ∧ z ≤ un ∧ z ≤ B.kn ∧ z ≤ B.od ∧ z ≤ B.lw ∧ z ≤ B.pi ∧ z ≤ B.ip ∧ z ≤ B.ik := h9.2.2.2.2.2.2.2.2.2.2
/-- the component's state. -/
def CRep (c : HC) (o jn tpa : Nat) (X : AX) : Prop :=
  (X.OK) ∧
  (CbR c o jn tpa) ∧
  (CtR c o tpa X) ∧
  (CoR c) ∧
  (NzJ c) ∧
  (CsI c) ∧
  (c.lo ≤ c.sz) ∧
  (X.gr = none → c.fr 103 o = none ∧ c.fr 105 o = none) ∧
  (∀ A ind, X.gr = some (A, ind) → ∃ g L z hs, c.fr 103 o = some g ∧ (c.lo ≤ z ∧ z ≤ c.sz) ∧ CgR (c.cut z) L A g ind ∧ (c.fr 104 o = hs.map Prod.fst ∧ ∀ x sm, hs = some (x, sm) → ShR c x sm A.g) ∧ (X.tr = none → c.fr 105 o = none) ∧ (∀ V sz gv, X.tr = some (V, sz, gv) → ∃ D i B tu un s ga v, TrX c L A V gv o z D i B tu un s ga v ∧ ∀ x sm, hs = some (x, sm) → ∀ k, k < V.n → D.va k ≠ sm)) ∧
  (X.tr ≠ none → (X.an = none → c.fi 110 o = -1) ∧ ∀ a b, X.an = some (a, b) → c.fi 110 o = I a ∧ c.fi 111 o = I b ∧ a < 1000)
theorem CRep.ok {c : HC} {o jn tpa : Nat} {X : AX} (h9 : CRep c o jn tpa X) : X.OK := h9.1
theorem CRep.B {c : HC} {o jn tpa : Nat} {X : AX} (h9 : CRep c o jn tpa X) : CbR c o jn tpa := h9.2.1
theorem CRep.Y {c : HC} {o jn tpa : Nat} {X : AX} (h9 : CRep c o jn tpa X) : CtR c o tpa X := h9.2.2.1
theorem CRep.Z {c : HC} {o jn tpa : Nat} {X : AX} (h9 : CRep c o jn tpa X) : CoR c := h9.2.2.2.1
theorem CRep.J {c : HC} {o jn tpa : Nat} {X : AX} (h9 : CRep c o jn tpa X) : NzJ c := h9.2.2.2.2.1
theorem CRep.CI {c : HC} {o jn tpa : Nat} {X : AX} (h9 : CRep c o jn tpa X) : CsI c := h9.2.2.2.2.2.1
theorem CRep.lz {c : HC} {o jn tpa : Nat} {X : AX} (h9 : CRep c o jn tpa X) : c.lo ≤ c.sz := h9.2.2.2.2.2.2.1
theorem CRep.g0 {c : HC} {o jn tpa : Nat} {X : AX} (h9 : CRep c o jn tpa X) : X.gr = none → c.fr 103 o = none ∧ c.fr 105 o = none := h9.2.2.2.2.2.2.2.1
theorem CRep.g1 {c : HC} {o jn tpa : Nat} {X : AX} (h9 : CRep c o jn tpa X) : ∀ A ind, X.gr = some (A, ind) → ∃ g L z hs, c.fr 103 o = some g ∧ (c.lo ≤ z ∧ z ≤ c.sz) ∧ CgR (c.cut z) L A g ind ∧ (c.fr 104 o = hs.map Prod.fst ∧ ∀ x sm, hs = some (x, sm) → ShR c x sm A.g) ∧ (X.tr = none → c.fr 105 o = none) ∧ (∀ V sz gv, X.tr = some (V, sz, gv) → ∃ D i B tu un s ga v, TrX c L A V gv o z D i B tu un s ga v ∧ ∀ x sm, hs = some (x, sm) → ∀ k, k < V.n → D.va k ≠ sm) := h9.2.2.2.2.2.2.2.2.1
theorem CRep.an {c : HC} {o jn tpa : Nat} {X : AX} (h9 : CRep c o jn tpa X) : X.tr ≠ none → (X.an = none → c.fi 110 o = -1) ∧ ∀ a b, X.an = some (a, b) → c.fi 110 o = I a ∧ c.fi 111 o = I b ∧ a < 1000 := h9.2.2.2.2.2.2.2.2.2
end
