/-! plain: vb -/
set_option maxRecDepth 100000
section
variable {h : AH} {lo q o jn tpa : Nat} {tp : Nat → Nat} {n : Nat} {t : Tk} {L : GA} {A : PG} {g : Nat} {D D' : TA} {V : Tv} {sz : Nat → Nat} {ind : Nat → Int32} {X X' : AX} {gv : Nat → Int32} {i z : Nat} {B : IA} {tu un : Nat} {s : TjS} {ga : Nat} {v : Vl}

/-- what asking writes. -/
def okQ (c : HC) (f a : Nat) : Prop := (100 ≤ f ∧ f < 400 ∧ f ≠ 103 ∧ f ≠ 104 ∧ f ≠ 105 ∧ f ≠ 106) ∨ f = 2202 ∨ f = 2203 ∨ (f = 0 ∧ c.kd a = (41, 1000))
def okQ5 (c : HC) (f a : Nat) : Prop := (100 ≤ f ∧ f < 400 ∧ f ≠ 105) ∨ f = 2202 ∨ f = 2203 ∨ (f = 0 ∧ c.kd a = (41, 1000))
theorem okQ.five {c : HC} {f a : Nat} (hh : okQ c f a) : okQ5 c f a := by
  rcases hh with h | h | h | h
  · exact .inl ⟨h.1, h.2.1, h.2.2.2.2.1⟩
  · exact .inr (.inl h)
  · exact .inr (.inr (.inl h))
  · exact .inr (.inr (.inr h))
theorem RkB.keep5 {W : Nat → Nat → Prop} {c c' : HC} {G : Gv} (K : RkB c L D G V o i B tu un s ga gv) (F : Fr W c c') (hW : ∀ f a, W f a → okQ5 c f a) : RkB c' L D G V o i B tu un s ga gv := by
  have R := K.I.K.R
  have Tr := K.I.Tr
  have nf : ∀ f a, f ≠ 0 ∧ (f < 100 ∨ 400 ≤ f ∨ f = 105) ∧ f ≠ 2202 ∧ f ≠ 2203 → ¬ W f a := fun f a hf hh => by
    rcases hW f a hh with h | h | h | h <;> omega
  have n0 : ∀ {b t n : Nat}, c.kd b = (t, n) → t ≠ 41 → ¬ W 0 b := fun {b t n} hb ht hh => by
    rcases hW 0 b hh with h | h | h | h
    · omega
    · omega
    · omega
    · rw [hb] at h; exact ht (Prod.mk.inj h.2).1
  have S' : GS c' L G := K.I.K.S.keep F ⟨fun a => ⟨nf _ _ (by decide), nf _ _ (by decide), nf _ _ (by decide), nf _ _ (by decide), nf _ _ (by decide), nf _ _ (by decide)⟩, fun q hq => nf _ _ (by decide),
    fun p hp => ⟨nf _ _ (by decide), nf _ _ (by decide), n0 (K.I.K.S.pr p hp).sl.dk (by decide), n0 (K.I.K.S.pr p hp).k2 (by decide)⟩⟩
  have R' : TrR c' L D G V o := R.keep F (fun f a hf => nf f a (by omega)) (nf _ _ (by decide)) (nf _ _ (by decide)) (n0 R.rl.dk (by decide)) (fun k hk => n0 (R.nd k hk).ls.dk (by decide))
  have ol := K.I.K.J.l
  have Y := K.I.K.Y
  have Y' : IxR c' i B := Y.keep ol F (fun f hf => nf _ _ (by omega))
  have a1 := F.ai _ Y.l1 (n0 Y.k1 (by decide))
  have a2 := F.ai _ Y.l2 (n0 Y.k2 (by decide))
  have a3 := F.ai _ Y.l3 (n0 Y.k3 (by decide))
  have a4 := F.ai _ Y.l4 (n0 Y.k4 (by decide))
  have a5 := F.ai _ Y.l5 (n0 Y.k5 (by decide))
  have a6 := F.ai _ Y.l6 (n0 Y.k6 (by decide))
  have TR := K.I.R
  have fi := fun f (hf : f ≠ 0 ∧ (f < 100 ∨ 400 ≤ f ∨ f = 105) ∧ f ≠ 2202 ∧ f ≠ 2203) => F.fi f i ol (nf f i hf)
  have fr := fun f (hf : f ≠ 0 ∧ (f < 100 ∨ 400 ≤ f ∨ f = 105) ∧ f ≠ 2202 ∧ f ≠ 2203) => F.fr f i ol (nf f i hf)
  refine ⟨⟨⟨S', R', ⟨by rw [F.kd _ ol]; exact K.I.K.J.k, Nat.lt_of_lt_of_le ol F.sz, by rw [fr _ (by decide)]; exact K.I.K.J.mx⟩, Y'⟩,
    ⟨by rw [fr _ (by decide)]; exact Tr.f1, by rw [fr _ (by decide)]; exact Tr.f2, by rw [F.kd _ Tr.l1]; exact Tr.k1, by rw [F.kd _ Tr.l2]; exact Tr.k2, Nat.lt_of_lt_of_le Tr.l1 F.sz, Nat.lt_of_lt_of_le Tr.l2 F.sz, Tr.d1, Tr.d2, Tr.d3, Tr.d4⟩,
    ⟨fun j hj => by rw [a2]; exact TR.od j hj, fun j hj => by rw [a3]; exact TR.lw j hj, fun k hk => by rw [a4]; exact TR.pi k hk, fun j hj => by rw [a5]; exact TR.ip j hj, fun j hj => by rw [a1]; exact TR.kn j hj, fun k hk => by rw [a6]; exact TR.ik k hk,
     by rw [fi _ (by decide)]; exact TR.n1, by rw [fi _ (by decide)]; exact TR.n2, by rw [fi _ (by decide)]; exact TR.n3⟩, by rw [fi _ (by decide)]; exact K.I.m, K.I.F⟩, K.U.keep F (fun p hp => (K.I.K.S.pr p hp).l) (fun f a hf => nf f a (by omega)) (fun a ha => n0 (t := (c.kd a).1) (n := (c.kd a).2) rfl (by omega)), ?_⟩
  exact ⟨by rw [F.fr _ _ R.tl (nf _ _ (by decide))]; exact K.Gn.f, by rw [F.kd _ K.Gn.l]; exact K.Gn.k, Nat.lt_of_lt_of_le K.Gn.l F.sz, fun j hj => by rw [F.ai _ K.Gn.l (n0 K.Gn.k (by decide))]; exact K.Gn.v j hj⟩
theorem RkB.keepG {W : Nat → Nat → Prop} {c c' : HC} {G : Gv} (K : RkB c L D G V o i B tu un s ga gv) (F : Fr W c c') (hW : ∀ f a, W f a → okQ c f a) : RkB c' L D G V o i B tu un s ga gv := K.keep5 F (fun f a hh => (hW f a hh).five)
theorem TrX.keepG {W : Nat → Nat → Prop} {c c' : HC} (K : TrX c L A V gv o z D i B tu un s ga v) (F : Fr W c c') (hW : ∀ f a, W f a → okQ c f a) : TrX c' L A V gv o z D i B tu un s ga v := by
  have R := K.R.I.K.R
  have Tr := K.R.I.Tr
  have n0 : ∀ {b t n : Nat}, c.kd b = (t, n) → t ≠ 41 → ¬ W 0 b := fun {b t n} hb ht hh => by
    rcases hW 0 b hh with h | h | h | h
    · omega
    · omega
    · omega
    · rw [hb] at h; exact ht (Prod.mk.inj h.2).1
  have nf : ∀ f a, f ≠ 0 ∧ (f < 100 ∨ 400 ≤ f ∨ f = 105 ∨ f = 106) ∧ f ≠ 2202 ∧ f ≠ 2203 → ¬ W f a := fun f a hf hh => by
    rcases hW f a hh with h | h | h | h <;> omega
  refine ⟨K.R.keepG F hW, fun k a hk ha => by rw [F.ai _ (R.nd k hk).vl (n0 (R.nd k hk).vk (by decide))]; exact K.Va k a hk ha, by rw [F.ai _ Tr.l1 (n0 Tr.k1 (by decide)), F.ai _ Tr.l2 (n0 Tr.k2 (by decide))]; exact K.N, K.dv, K.ij, by rw [F.fr _ _ R.xl (nf _ _ (by decide))]; exact K.fi, by rw [F.fr _ _ R.tl (nf _ _ (by decide))]; exact K.rt, K.rn, K.rm, K.z1, K.z2⟩
theorem ShR.keep {W : Nat → Nat → Prop} {c c' : HC} {x sm : Nat} {G : Gv} (K : ShR c x sm G) (F : Fr W c c') (hf : ∀ f, 1400 ≤ f → f < 1500 → ¬ W f x) (h0 : ¬ W 0 sm) : ShR c' x sm G :=
  ⟨by rw [F.kd _ K.l]; exact K.k, Nat.lt_of_lt_of_le K.l F.sz, by rw [F.fr _ _ K.l (hf _ (by decide) (by decide))]; exact K.f, by rw [F.kd _ K.ml]; exact K.mk, Nat.lt_of_lt_of_le K.ml F.sz, by rw [F.fi _ _ K.l (hf _ (by decide) (by decide))]; exact K.r4, by rw [F.fi _ _ K.l (hf _ (by decide) (by decide))]; exact K.r5, by rw [F.fi _ _ K.l (hf _ (by decide) (by decide))]; exact K.r6, by rw [F.fi _ _ K.l (hf _ (by decide) (by decide))]; exact K.r7, fun s hs => by rw [F.ai _ K.ml h0]; exact K.mn s hs⟩
/-- what stays of what is known. -/
def CRg (c : HC) (o jn tpa : Nat) (X : AX) : Prop :=
  (X.gr = none → c.fr 103 o = none ∧ c.fr 105 o = none) ∧
  (∀ A ind, X.gr = some (A, ind) → ∃ g L z hs, c.fr 103 o = some g ∧ (c.lo ≤ z ∧ z ≤ c.sz) ∧ CgR (c.cut z) L A g ind ∧ (c.fr 104 o = hs.map Prod.fst ∧ ∀ x sm, hs = some (x, sm) → ShR c x sm A.g) ∧ (X.tr = none → c.fr 105 o = none) ∧ (∀ V sz gv, X.tr = some (V, sz, gv) → ∃ D i B tu un s ga v, TrX c L A V gv o z D i B tu un s ga v ∧ ∀ x sm, hs = some (x, sm) → ∀ k, k < V.n → D.va k ≠ sm))
theorem CRg.g0 {c : HC} {o jn tpa : Nat} {X : AX} (h9 : CRg c o jn tpa X) : X.gr = none → c.fr 103 o = none ∧ c.fr 105 o = none := h9.1
theorem CRg.g1 {c : HC} {o jn tpa : Nat} {X : AX} (h9 : CRg c o jn tpa X) : ∀ A ind, X.gr = some (A, ind) → ∃ g L z hs, c.fr 103 o = some g ∧ (c.lo ≤ z ∧ z ≤ c.sz) ∧ CgR (c.cut z) L A g ind ∧ (c.fr 104 o = hs.map Prod.fst ∧ ∀ x sm, hs = some (x, sm) → ShR c x sm A.g) ∧ (X.tr = none → c.fr 105 o = none) ∧ (∀ V sz gv, X.tr = some (V, sz, gv) → ∃ D i B tu un s ga v, TrX c L A V gv o z D i B tu un s ga v ∧ ∀ x sm, hs = some (x, sm) → ∀ k, k < V.n → D.va k ≠ sm) := h9.2
theorem CRep.gg {c : HC} (R : CRep c o jn tpa X) : CRg c o jn tpa X := ⟨R.g0, R.g1⟩
theorem CRg.keep {W : Nat → Nat → Prop} {c c' : HC} (R : CRg c o jn tpa X) (ol : o < c.sz) (F : Fr W c c') (hW : ∀ f a, W f a → okQ c f a) (eg : X'.gr = X.gr) (et : X'.tr = X.tr) : CRg c' o jn tpa X' := by
  have nf : ∀ f a, f ≠ 0 ∧ (f < 100 ∨ 400 ≤ f ∨ 103 ≤ f ∧ f ≤ 106) ∧ f ≠ 2202 ∧ f ≠ 2203 → ¬ W f a := fun f a hf hh => by
    rcases hW f a hh with h | h | h | h <;> omega
  have n0 : ∀ {b t n : Nat}, c.kd b = (t, n) → t ≠ 41 → ¬ W 0 b := fun {b t n} hb ht hh => by
    rcases hW 0 b hh with h | h | h | h
    · omega
    · omega
    · omega
    · rw [hb] at h; exact ht (Prod.mk.inj h.2).1
  refine ⟨fun hg => ?_, fun A ind hg => ?_⟩
  · rw [eg] at hg
    rw [F.fr _ _ ol (nf _ _ (by decide)), F.fr _ _ ol (nf _ _ (by decide))]
    exact R.g0 hg
  · rw [eg] at hg
    obtain ⟨g, L, z, hs, a1, a2, a3, a4, a5, a6⟩ := R.g1 A ind hg
    refine ⟨g, L, z, hs, by rw [F.fr _ _ ol (nf _ _ (by decide))]; exact a1, ⟨by have := a2.1; unfold HC.lo at *; rw [F.bs]; exact this, Nat.le_trans a2.2 F.sz⟩, a3.kc a2.2 F (fun f a _ hh => ?_), ⟨by rw [F.fr _ _ ol (nf _ _ (by decide))]; exact a4.1, fun x sm he => (a4.2 x sm he).keep F (fun f h1 h2 => nf f _ (by omega)) (n0 (a4.2 x sm he).mk (by decide))⟩, fun ht => ?_, fun V sz gv ht => ?_⟩
    · rcases hW f a hh with h | h | h | h
      · exact .inl (.inl ⟨h.1, h.2.1⟩)
      · exact .inl (.inr (.inl h))
      · exact .inl (.inr (.inr (.inl h)))
      · exact .inr h
    · rw [et] at ht
      rw [F.fr _ _ ol (nf _ _ (by decide))]; exact a5 ht
    · rw [et] at ht
      obtain ⟨D, i, B, tu, un, s, ga, v, K, hh⟩ := a6 V sz gv ht
      exact ⟨D, i, B, tu, un, s, ga, v, K.keepG F hW, hh⟩
/-- over what only asking writes. -/
theorem CRep.go {W : Nat → Nat → Prop} {c c' : HC} (R : CRep c o jn tpa X) (F : Fr W c c') (hW : ∀ f a, W f a → okQ c f a ∧ c.lo ≤ a ∧ f ≠ 100 ∧ f ≠ 101 ∧ f ≠ 110 ∧ f ≠ 111) (Y' : CtR c' o tpa X') (ok' : X'.OK) (eg : X'.gr = X.gr) (et : X'.tr = X.tr) (ea : X'.an = X.an) : CRep c' o jn tpa X' := by
  have ol := R.B.l
  have G := R.gg.keep ol F (fun f a hh => (hW f a hh).1) eg et
  have nf : ∀ f a, f = 100 ∨ f = 101 ∨ f = 110 ∨ f = 111 → ¬ W f a := fun f a hf hh => by have := (hW f a hh).2.2; omega
  refine ⟨ok', R.B.keep F (nf _ _ (by simp)) (nf _ _ (by simp)) (fun hh => ?_), Y', R.Z.keep F (fun f a hh => (hW f a hh).2.1), R.J.keep F, R.CI.keep F (fun hh => ?_) (fun a hh => ?_), ?_, G.g0, G.g1, fun ht => ?_⟩
  · rcases (hW _ _ hh).1 with h | h | h | h
    · omega
    · omega
    · omega
    · rw [R.B.j2] at h; exact absurd (Prod.mk.inj h.2).1 (by decide)
  · rcases (hW _ _ hh).1 with h | h | h | h
    · omega
    · omega
    · omega
    · rw [R.CI.k] at h; exact absurd (Prod.mk.inj h.2).1 (by decide)
  · rcases (hW _ _ hh).1 with h | h | h | h <;> omega
  · have := R.lz
    have := F.sz
    have e : c'.lo = c.lo := by unfold HC.lo; rw [F.bs]
    omega
  · rw [et] at ht
    have a1 := R.an ht
    rw [ea, F.fi _ _ ol (nf _ _ (by simp)), F.fi _ _ ol (nf _ _ (by simp))]
    exact a1
theorem CRep.st {c c' : HC} {x : Int32} (R : CRep c o jn tpa X) (F : Fr (WSt o) c c') (Y' : CtR c' o tpa (X.ws x)) : CRep c' o jn tpa (X.ws x) :=
  R.go F (fun f a hh => ⟨.inl (by have := hh.1; omega), by rw [hh.2]; exact R.B.b, by have := hh.1; omega, by have := hh.1; omega, by have := hh.1; omega, by have := hh.1; omega⟩) Y' (R.ok.ws x) rfl rfl rfl
/-- a status is told; an answer comes. -/
theorem q_can (R : CRep h.c o jn tpa X) {x : Int32} {Q : Int32 → AH → Prop} (hQ : ∀ h', CRep h'.c o jn tpa (X.ws x) → Fr (WSt o) h.c h'.c → h'.rc = h.rc → h'.rs = h.rs → Q (if x = 0 then 1 else 0) h') : wp_X0_can o x h Q :=
  px_can R.B R.Y (fun h' F Y' c s => hQ h' (R.st F Y') F c s)
theorem q_none (R : CRep h.c o jn tpa X) {x : Int32} {Q : Int32 → AH → Prop} (hQ : ∀ h', CRep h'.c o jn tpa (X.ws x) → h'.rc = h.rc → h'.rs = h.rs → Q (-1) h') : wp_X0_none o x h Q :=
  px_none R.B R.Y (fun h' F Y' c s => hQ h' (R.st F Y') c s)
theorem ws_ws (X : AX) (a b : Int32) : (X.ws a).ws b = X.ws b := rfl
end
