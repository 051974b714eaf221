/-! plain: cn6 cn7 -/
set_option maxRecDepth 100000
section
variable {G : Gv} {T : Tv} {L : GA} {A : TA} {x o : Nat} {B : IA}

/-- a row of 320 that a field of o names. -/
def IRow (c : HC) (o f a t : Nat) : Prop :=
  (c.fr f o = some a) ∧
  (c.kd a = (t, 320)) ∧
  (a < c.sz) ∧
  (c.ai a = fun _ => 0)
theorem IRow.fr {c : HC} {o f a t : Nat} (h9 : IRow c o f a t) : c.fr f o = some a := h9.1
theorem IRow.kd {c : HC} {o f a t : Nat} (h9 : IRow c o f a t) : c.kd a = (t, 320) := h9.2.1
theorem IRow.l {c : HC} {o f a t : Nat} (h9 : IRow c o f a t) : a < c.sz := h9.2.2.1
theorem IRow.z {c : HC} {o f a t : Nat} (h9 : IRow c o f a t) : c.ai a = fun _ => 0 := h9.2.2.2

theorem IRow.keep {c c' : HC} {f a t g : Nat} (X : IRow c o f a t) (ho : o < c.sz) (F : Fr (fun u b => b = o ∧ u = g) c c') (hg : g ≠ 0) (hf : f ≠ g) : IRow c' o f a t :=
  ⟨by rw [F.fr _ _ ho (fun hh => hf hh.2)]; exact X.fr, by rw [F.kd _ X.l]; exact X.kd, Nat.lt_of_lt_of_le X.l F.sz, by rw [F.ai _ X.l (fun hh => hg hh.2.symm)]; exact X.z⟩

/-- a new row, and the field that names it. -/
theorem px_na {h : AH} (f t : Nat) (ho : o < h.sz) : Fr (fun u b => b = o ∧ u = f) h.c ((h.new t (ni 320) (ni 320)).sfr f o (some h.sz)).c ∧ IRow ((h.new t (ni 320) (ni 320)).sfr f o (some h.sz)).c o f h.sz t := by
  refine ⟨Fr.sfr (h := h.new t (ni 320) (ni 320)) ((Fr.refl _).new _ _ _) _ (fun _ => ⟨rfl, rfl⟩), sfr_same _ _ _ _, ?_, Nat.lt_succ_self _, ?_⟩
  · show (h.new t (ni 320) (ni 320)).kd h.sz = _
    rw [new_kd, if_pos rfl]; rfl
  · show (h.new t (ni 320) (ni 320)).ai h.sz = _
    rw [new_ai, if_pos rfl]

def tj0 : TjS := (fun _ => 0, fun _ => 0, fun _ => 0, 0, fun _ => none, fun _ => false, 0, 0)

theorem tj0_I (V : Nat → Prop) (E : Nat → Nat → Prop) : TjI V E (fun _ => False) tj0 :=
  ⟨fun _ => Nat.le_refl _, fun _ _ _ hh => absurd rfl hh, fun _ hh => absurd rfl hh, fun _ hk => absurd hk (Nat.not_lt_zero _), fun _ hh => absurd rfl hh.1, fun _ _ _ hk => absurd hk (Nat.not_lt_zero _), fun _ _ => rfl, fun _ hh => hh.elim,
   fun _ _ hh => absurd rfl hh.1, fun _ hh => absurd rfl hh.1, fun _ _ hh => absurd rfl hh, fun _ _ hh => absurd hh (by simp [tj0]), fun _ _ _ hh => absurd hh (by simp [tj0]), fun _ _ _ hh => absurd hh (by simp [tj0]), fun _ hk => absurd hk (Nat.not_lt_zero _), fun _ hk => absurd hk (Nat.not_lt_zero _)⟩
theorem tj0_N : TjN tj0 := by
  refine ⟨Nat.le_refl _, ?_⟩
  have := List.length_filter_le (fun v => decide (tj0.ord v = 0)) (List.range 320)
  simp only [List.length_range] at this
  show 0 + unv tj0 ≤ 320
  unfold unv
  omega

/-- the walk over all instances. -/
theorem px_all (W : G.WF) (X : T.WF G) {c0 : HC} (K0 : TjB c0 L A G T x o B) {h : AH} (hm : c0.fi 1700 o = I (8 * T.n)) (F : Fr (WT B o) c0 h.c) (R : TjR h.c o B (8 * T.n) tj0) {Q : AH → Prop}
    (hQ : ∀ h' s, Fr (WT B o) c0 h'.c → TjR h'.c o B (8 * T.n) s → TjI (T.is G) (T.ed G) (fun _ => False) s → (∀ v, T.is G v → s.ord v ≠ 0) → TjN s → h'.rc = h.rc → h'.rs = h.rs → Q h') :
    xlp (σ := Int32) (fun s39 T40 k39 =>
  nn T40 (some o) 17 ∧
  (((T40.fi 1700 o) ≤ s39 →
  Q T40) ∧ (¬ (T40.fi 1700 o) ≤ s39 →
  wp_X17_is o s39 (T40.srm 0 0) fun r43 h44 => ∀ h45, h45 = h44.srm T40.rc T40.rs →
  ((r43 = 0 →
  k39 (s39 + 1) h45) ∧ (¬ r43 = 0 →
  nn h45 (some o) 17 ∧
  ix h45 (h45.fr 1702 o) 40 s39 ∧
  (((h45.ai (adr (h45.fr 1702 o)) (ni s39)) = 0 →
  wp_X17_goes 322 o s39 (h45.srm 0 0) fun h50 => ∀ h51, h51 = h50.srm h45.rc h45.rs →
  k39 (s39 + 1) h51) ∧ (¬ (h45.ai (adr (h45.fr 1702 o)) (ni s39)) = 0 →
  k39 (s39 + 1) h45))))))) 0 h := by
  have h40 := X.n40
  refine xlp_cnt (8 * T.n) (fun k q U => q = I k ∧ ∃ s, Fr (WT B o) c0 U.c ∧ TjR U.c o B (8 * T.n) s ∧ TjI (T.is G) (T.ed G) (fun _ => False) s ∧ TjN s ∧ (∀ v, v < k → T.is G v → s.ord v ≠ 0) ∧ U.rc = h.rc ∧ U.rs = h.rs)
    ⟨rfl, tj0, F, R, tj0_I _ _, tj0_N, fun v hv => by omega, rfl, rfl⟩ ?_
  rintro k _ U K hk ⟨rfl, s, FU, RU, IU, NU, vU, cU, sU⟩ hK
  have KU := K0.keep FU
  have mU : U.fi 1700 o = I (8 * T.n) := (FU.fi 1700 o K0.J.l (WT.nof (by decide) (by decide) (by decide) (by decide))).trans hm
  refine ⟨nn_of rfl KU.J.k, ?_⟩
  rw [mU]
  by_cases e : k = 8 * T.n
  · subst e
    exact brT (by (first | omega | ((try simp (disch := omega) only [L_le, le_L, L_lt, lt_L, eq_L, L_eq, I_le, I_lt, I_eq, I_ni, add_L, L_add, I_add, mul_L, L_mul, I_mul, sub_L, L_sub, I_sub, div_L, rem_L]); done) | ((try simp (disch := omega) only [L_le, le_L, L_lt, lt_L, eq_L, L_eq, I_le, I_lt, I_eq, I_ni, add_L, L_add, I_add, mul_L, L_mul, I_mul, sub_L, L_sub, I_sub, div_L, rem_L]); omega))) (hQ U s FU RU IU (fun v hv => vU v (X.isLt hv) hv) NU cU sU)
  have hk' : k < 8 * T.n := by omega
  refine brF (by (first | omega | ((try simp (disch := omega) only [L_le, le_L, L_lt, lt_L, eq_L, L_eq, I_le, I_lt, I_eq, I_ni, add_L, L_add, I_add, mul_L, L_mul, I_mul, sub_L, L_sub, I_sub, div_L, rem_L]); done) | ((try simp (disch := omega) only [L_le, le_L, L_lt, lt_L, eq_L, L_eq, I_le, I_lt, I_eq, I_ni, add_L, L_add, I_add, mul_L, L_mul, I_mul, sub_L, L_sub, I_sub, div_L, rem_L]); omega))) ?_
  refine px_is (h := U.srm 0 0) W X KU.S KU.R KU.J hk' (pu ?_)
  (try simp (disch := omega) only [L_le, le_L, L_lt, lt_L, eq_L, L_eq, I_le, I_lt, I_eq, I_ni, add_L, L_add, I_add, mul_L, L_mul, I_mul, sub_L, L_sub, I_sub, div_L, rem_L])
  by_cases his : T.is G k
  · rw [if_pos his]
    refine brF (by decide) ⟨nn_of rfl KU.J.k, ?_⟩
    have f2 : U.fr 1702 o = some B.od := KU.Y.f2
    have eo : U.ai B.od k = I (s.ord k) := RU.od k (by omega)
    rw [f2, adr_some, eo]
    refine ⟨ix_of rfl KU.Y.k2 (by omega) (by decide), ?_⟩
    have hol : s.ord k ≤ 320 := by have := IU.a1 k; have := NU.1; have := NU.2; omega
    by_cases hz : s.ord k = 0
    · rw [hz]
      refine brT rfl ?_
      have hu : unv s < 322 := by have := NU.2; omega
      refine px_goesT W X K0 322 (h := U.srm 0 0) hu FU RU IU NU his hz (fun g hg => hg.elim) ?_
      intro h' s' F' R' P' N' _ _
      rintro _ rfl
      refine hK _ _ hk' ⟨rfl, s', F', R', P'.I, N', fun v hv hvi => ?_, cU, sU⟩
      by_cases ev : v = k
      · rw [ev, P'.oi]; omega
      · have := vU v (by omega) hvi
        rw [P'.X.o v this]; exact this
    · refine brF (fun hh => hz ((eq_L 0 (by decide) (by omega)).1 hh)) (hK _ _ hk' ⟨rfl, s, FU, RU, IU, NU, fun v hv hvi => ?_, cU, sU⟩)
      by_cases ev : v = k
      · rw [ev]; exact hz
      · exact vU v (by omega) hvi
  · rw [if_neg his]
    refine brT rfl (hK _ _ hk' ⟨rfl, s, FU, RU, IU, NU, fun v hv hvi => ?_, cU, sU⟩)
    by_cases ev : v = k
    · rw [ev] at hvi; exact absurd hvi his
    · exact vU v (by omega) hvi
end
section
variable {G : Gv} {T : Tv} {L : GA} {A : TA} {x o : Nat} {B : IA}

/-- rows that fields of o name: field, address, kind. -/
def IRows (c : HC) (o : Nat) (l : List (Nat × Nat × Nat)) : Prop := (∀ e, e ∈ l → IRow c o e.1 e.2.1 e.2.2) ∧ l.Pairwise (fun a b => b.2.1 < a.2.1)

theorem IRows.one {h h1 h2 : AH} {l : List (Nat × Nat × Nat)} (I : IRows h.c o l) (f t : Nat) (ho : o < h.sz) (hf : f ≠ 0) (hl : ∀ e, e ∈ l → e.1 ≠ f) (hr : 1 ≤ h.rc ∧ 320 ≤ h.rs)
    (e1 : h1 = h.new t (ni 320) (ni 320)) (e2 : h2 = h1.sfr f o (some h.sz)) : IRows h2.c o ((f, h.sz, t) :: l) ∧ Fr (fun u b => b = o ∧ u = f) h.c h2.c ∧ h2.sz = h.sz + 1 ∧ h2.rc = h.rc - 1 ∧ h2.rs = h.rs - 320 ∧ h2.fi = (h.new t (ni 320) (ni 320)).fi := by
  subst e1
  subst e2
  obtain ⟨F, J⟩ := px_na (h := h) (o := o) f t ho
  refine ⟨⟨fun e he => ?_, ?_⟩, F, rfl, rfl, rfl, rfl⟩
  · rcases List.mem_cons.1 he with rfl | he
    · exact J
    · exact (I.1 e he).keep ho F hf (hl e he)
  · refine List.pairwise_cons.2 ⟨fun e he => (I.1 e he).l, I.2⟩

theorem nl320 {h : AH} (h1 : 1 ≤ h.rc) (h2 : 320 ≤ h.rs) : nl h 320 := ⟨by decide, by decide, h1, h2⟩

/-- turns, unsettled. -/
def InT (c : HC) (o : Nat) (B : IA) (tu un : Nat) : Prop :=
  (c.fr 1710 o = some tu) ∧
  (c.fr 1711 o = some un) ∧
  (c.kd tu = (40, 320)) ∧
  (c.kd un = (42, 320)) ∧
  (tu < c.sz) ∧
  (un < c.sz) ∧
  (B.kn ≠ tu) ∧
  (B.ik ≠ un) ∧
  (B.pi ≠ tu) ∧
  (tu ≠ B.od ∧ tu ≠ B.lw ∧ un ≠ B.ip)
theorem InT.f1 {c : HC} {o : Nat} {B : IA} {tu un : Nat} (h9 : InT c o B tu un) : c.fr 1710 o = some tu := h9.1
theorem InT.f2 {c : HC} {o : Nat} {B : IA} {tu un : Nat} (h9 : InT c o B tu un) : c.fr 1711 o = some un := h9.2.1
theorem InT.k1 {c : HC} {o : Nat} {B : IA} {tu un : Nat} (h9 : InT c o B tu un) : c.kd tu = (40, 320) := h9.2.2.1
theorem InT.k2 {c : HC} {o : Nat} {B : IA} {tu un : Nat} (h9 : InT c o B tu un) : c.kd un = (42, 320) := h9.2.2.2.1
theorem InT.l1 {c : HC} {o : Nat} {B : IA} {tu un : Nat} (h9 : InT c o B tu un) : tu < c.sz := h9.2.2.2.2.1
theorem InT.l2 {c : HC} {o : Nat} {B : IA} {tu un : Nat} (h9 : InT c o B tu un) : un < c.sz := h9.2.2.2.2.2.1
theorem InT.d1 {c : HC} {o : Nat} {B : IA} {tu un : Nat} (h9 : InT c o B tu un) : B.kn ≠ tu := h9.2.2.2.2.2.2.1
theorem InT.d2 {c : HC} {o : Nat} {B : IA} {tu un : Nat} (h9 : InT c o B tu un) : B.ik ≠ un := h9.2.2.2.2.2.2.2.1
theorem InT.d3 {c : HC} {o : Nat} {B : IA} {tu un : Nat} (h9 : InT c o B tu un) : B.pi ≠ tu := h9.2.2.2.2.2.2.2.2.1
theorem InT.d4 {c : HC} {o : Nat} {B : IA} {tu un : Nat} (h9 : InT c o B tu un) : tu ≠ B.od ∧ tu ≠ B.lw ∧ un ≠ B.ip := h9.2.2.2.2.2.2.2.2.2

/-- what the walk leaves. -/
def KnF (V : Nat → Prop) (E : Nat → Nat → Prop) (s : TjS) : Prop :=
  (∀ v, V v → ∃ k, k < s.kts ∧ s.kn v = some k) ∧
  (∀ v, ¬ V v → s.kn v = none) ∧
  (∀ v w k, s.kn v = some k → E v w → ∃ k', k' ≤ k ∧ s.kn w = some k') ∧
  (∀ v w, V v → V w → (s.kn v = s.kn w ↔ Rch E v w ∧ Rch E w v)) ∧
  (∀ k, k < s.kts → ∃ v, V v ∧ s.kn v = some k) ∧
  (∀ v k, s.kn v = some k → (s.kt k = true ↔ ∃ w, E v w ∧ Rch E w v)) ∧
  (s.kts ≤ 320) ∧
  (s.pd = 0)
theorem KnF.a {V : Nat → Prop} {E : Nat → Nat → Prop} {s : TjS} (h9 : KnF V E s) : ∀ v, V v → ∃ k, k < s.kts ∧ s.kn v = some k := h9.1
theorem KnF.b {V : Nat → Prop} {E : Nat → Nat → Prop} {s : TjS} (h9 : KnF V E s) : ∀ v, ¬ V v → s.kn v = none := h9.2.1
theorem KnF.t {V : Nat → Prop} {E : Nat → Nat → Prop} {s : TjS} (h9 : KnF V E s) : ∀ v w k, s.kn v = some k → E v w → ∃ k', k' ≤ k ∧ s.kn w = some k' := h9.2.2.1
theorem KnF.d {V : Nat → Prop} {E : Nat → Nat → Prop} {s : TjS} (h9 : KnF V E s) : ∀ v w, V v → V w → (s.kn v = s.kn w ↔ Rch E v w ∧ Rch E w v) := h9.2.2.2.1
theorem KnF.e {V : Nat → Prop} {E : Nat → Nat → Prop} {s : TjS} (h9 : KnF V E s) : ∀ k, k < s.kts → ∃ v, V v ∧ s.kn v = some k := h9.2.2.2.2.1
theorem KnF.f {V : Nat → Prop} {E : Nat → Nat → Prop} {s : TjS} (h9 : KnF V E s) : ∀ v k, s.kn v = some k → (s.kt k = true ↔ ∃ w, E v w ∧ Rch E w v) := h9.2.2.2.2.2.1
theorem KnF.n {V : Nat → Prop} {E : Nat → Nat → Prop} {s : TjS} (h9 : KnF V E s) : s.kts ≤ 320 := h9.2.2.2.2.2.2.1
theorem KnF.p {V : Nat → Prop} {E : Nat → Nat → Prop} {s : TjS} (h9 : KnF V E s) : s.pd = 0 := h9.2.2.2.2.2.2.2

/-- all of an object of instances. -/
def InR (c : HC) (L : GA) (A : TA) (G : Gv) (T : Tv) (x o : Nat) (B : IA) (tu un : Nat) (s : TjS) : Prop :=
  (TjB c L A G T x o B) ∧
  (InT c o B tu un) ∧
  (TjR c o B (8 * T.n) s) ∧
  (c.fi 1700 o = I (8 * T.n)) ∧
  (KnF (T.is G) (T.ed G) s)
theorem InR.K {c : HC} {L : GA} {A : TA} {G : Gv} {T : Tv} {x o : Nat} {B : IA} {tu un : Nat} {s : TjS} (h9 : InR c L A G T x o B tu un s) : TjB c L A G T x o B := h9.1
theorem InR.Tr {c : HC} {L : GA} {A : TA} {G : Gv} {T : Tv} {x o : Nat} {B : IA} {tu un : Nat} {s : TjS} (h9 : InR c L A G T x o B tu un s) : InT c o B tu un := h9.2.1
theorem InR.R {c : HC} {L : GA} {A : TA} {G : Gv} {T : Tv} {x o : Nat} {B : IA} {tu un : Nat} {s : TjS} (h9 : InR c L A G T x o B tu un s) : TjR c o B (8 * T.n) s := h9.2.2.1
theorem InR.m {c : HC} {L : GA} {A : TA} {G : Gv} {T : Tv} {x o : Nat} {B : IA} {tu un : Nat} {s : TjS} (h9 : InR c L A G T x o B tu un s) : c.fi 1700 o = I (8 * T.n) := h9.2.2.2.1
theorem InR.F {c : HC} {L : GA} {A : TA} {G : Gv} {T : Tv} {x o : Nat} {B : IA} {tu un : Nat} {s : TjS} (h9 : InR c L A G T x o B tu un s) : KnF (T.is G) (T.ed G) s := h9.2.2.2.2

/-- what instances' making writes. -/
def WIo (o : Nat) : Nat → Nat → Prop := fun f b => b = o ∧ 1700 ≤ f ∧ f ≤ 1712

def MI (c : HC) (o x m : Nat) : Prop :=
  ((c.kd o).1 = 17) ∧
  (c.fr 1712 o = some x) ∧
  (c.fi 1700 o = I m) ∧
  (c.fi 1707 o = 0) ∧
  (c.fi 1708 o = 0) ∧
  (c.fi 1709 o = 0)
theorem MI.k {c : HC} {o x m : Nat} (h9 : MI c o x m) : (c.kd o).1 = 17 := h9.1
theorem MI.mx {c : HC} {o x m : Nat} (h9 : MI c o x m) : c.fr 1712 o = some x := h9.2.1
theorem MI.m {c : HC} {o x m : Nat} (h9 : MI c o x m) : c.fi 1700 o = I m := h9.2.2.1
theorem MI.a {c : HC} {o x m : Nat} (h9 : MI c o x m) : c.fi 1707 o = 0 := h9.2.2.2.1
theorem MI.b {c : HC} {o x m : Nat} (h9 : MI c o x m) : c.fi 1708 o = 0 := h9.2.2.2.2.1
theorem MI.d {c : HC} {o x m : Nat} (h9 : MI c o x m) : c.fi 1709 o = 0 := h9.2.2.2.2.2

def InB (h0 h : AH) (o x m : Nat) (l : List (Nat × Nat × Nat)) (n : Nat) : Prop :=
  (IRows h.c o l) ∧
  (MI h.c o x m) ∧
  (Fr (WIo o) h0.c h.c) ∧
  (h.sz = h0.sz + n) ∧
  (h.rc = h0.rc - n) ∧
  (h.rs = h0.rs - 320 * n) ∧
  (o < h.sz)
theorem InB.r {h0 h : AH} {o x m : Nat} {l : List (Nat × Nat × Nat)} {n : Nat} (h9 : InB h0 h o x m l n) : IRows h.c o l := h9.1
theorem InB.M {h0 h : AH} {o x m : Nat} {l : List (Nat × Nat × Nat)} {n : Nat} (h9 : InB h0 h o x m l n) : MI h.c o x m := h9.2.1
theorem InB.F {h0 h : AH} {o x m : Nat} {l : List (Nat × Nat × Nat)} {n : Nat} (h9 : InB h0 h o x m l n) : Fr (WIo o) h0.c h.c := h9.2.2.1
theorem InB.sz {h0 h : AH} {o x m : Nat} {l : List (Nat × Nat × Nat)} {n : Nat} (h9 : InB h0 h o x m l n) : h.sz = h0.sz + n := h9.2.2.2.1
theorem InB.rc {h0 h : AH} {o x m : Nat} {l : List (Nat × Nat × Nat)} {n : Nat} (h9 : InB h0 h o x m l n) : h.rc = h0.rc - n := h9.2.2.2.2.1
theorem InB.rs {h0 h : AH} {o x m : Nat} {l : List (Nat × Nat × Nat)} {n : Nat} (h9 : InB h0 h o x m l n) : h.rs = h0.rs - 320 * n := h9.2.2.2.2.2.1
theorem InB.ol {h0 h : AH} {o x m : Nat} {l : List (Nat × Nat × Nat)} {n : Nat} (h9 : InB h0 h o x m l n) : o < h.sz := h9.2.2.2.2.2.2

theorem InB.one {h0 h h1 h2 : AH} {m n : Nat} {l : List (Nat × Nat × Nat)} (Y : InB h0 h o x m l n) (f t : Nat) (hf : 1701 ≤ f ∧ f ≤ 1706 ∨ f = 1710 ∨ f = 1711) (hl : ∀ e, e ∈ l → e.1 ≠ f) (hr : 1 ≤ h.rc ∧ 320 ≤ h.rs)
    (e1 : h1 = h.new t (ni 320) (ni 320)) (e2 : h2 = h1.sfr f o (some h.sz)) : InB h0 h2 o x m ((f, h0.sz + n, t) :: l) (n + 1) := by
  obtain ⟨R, F, hz, hc, hs, _⟩ := Y.r.one f t Y.ol (by omega) hl hr e1 e2
  have hk := fun g (hg : g ≠ f) => F.fi g o Y.ol (fun hh => hg hh.2)
  rw [Y.sz] at R
  refine ⟨R, ⟨?_, ?_, ?_, ?_, ?_, ?_⟩, Y.F.trans' F (fun u b _ hh => ⟨hh.1, by omega, by omega⟩), by rw [hz, Y.sz]; omega, by rw [hc, Y.rc]; omega, by rw [hs, Y.rs]; omega, by rw [hz]; have := Y.ol; omega⟩
  · rw [F.kd _ Y.ol]; exact Y.M.k
  · rw [F.fr _ _ Y.ol (fun hh => by omega)]; exact Y.M.mx
  · rw [hk _ (by omega)]; exact Y.M.m
  · rw [hk _ (by omega)]; exact Y.M.a
  · rw [hk _ (by omega)]; exact Y.M.b
  · rw [hk _ (by omega)]; exact Y.M.d
theorem InB.nn {h0 h h1 : AH} {m n : Nat} {l : List (Nat × Nat × Nat)} (Y : InB h0 h o x m l n) {t : Nat} (e1 : h1 = h.new t (ni 320) (ni 320)) : nn h1 (some o) 17 := by
  subst e1
  refine nn_of rfl ?_
  rw [new_kd, if_neg (Nat.ne_of_lt Y.ol)]; exact Y.M.k

theorem GS.keepI {c c' : HC} (S : GS c L G) (F : Fr (WIo o) c c') : GS c' L G :=
  S.keep F ⟨fun a => ⟨fun hh => by have := hh.2; omega, fun hh => by have := hh.2; omega, fun hh => by have := hh.2; omega, fun hh => by have := hh.2; omega, fun hh => by have := hh.2; omega, fun hh => by have := hh.2; omega⟩,
    fun s hs hh => by have := hh.2; omega, fun p hp => ⟨fun hh => by have := hh.2; omega, fun hh => by have := hh.2; omega, fun hh => by have := hh.2; omega, fun hh => by have := hh.2; omega⟩⟩
theorem TrR.keepI {c c' : HC} (R : TrR c L A G T x) (F : Fr (WIo o) c c') : TrR c' L A G T x :=
  R.keep F (fun f a hf hh => by have := hh.2; omega) (fun hh => by have := hh.2; omega) (fun hh => by have := hh.2; omega) (fun hh => by have := hh.2; omega) (fun k hk hh => by have := hh.2; omega)

theorem px_initI {h : AH} (W : G.WF) (X : T.WF G) (S : GS h.c L G) (R : TrR h.c L A G T x) (hk : (h.kd o).1 = 17) (ho : o < h.sz) (hz : ∀ f, h.fi f o = 0) (hc : 8 ≤ h.rc) (hs : 2560 ≤ h.rs) {Q : AH → Prop}
    (hQ : ∀ h' B tu un s, Fr (WIo o) h.c h'.c → InR h'.c L A G T x o B tu un s → (∀ k, k < 320 → h'.ai tu k = 0) → (∀ k, k < 320 → h'.ai un k = 0) → (h.sz ≤ B.kn ∧ h.sz ≤ B.od ∧ h.sz ≤ B.lw ∧ h.sz ≤ B.pi ∧ h.sz ≤ B.ip ∧ h.sz ≤ B.ik ∧ h.sz ≤ tu ∧ h.sz ≤ un) → h'.rc = h.rc - 8 → h'.rs = h.rs - 2560 → Q h') : wp_X17_init o (some x) h Q := by
  have h40 := X.n40
  unfold wp_X17_init
  refine ⟨nn_of rfl hk, ?_⟩
  intro h2 e2
  have F2 : Fr (WIo o) h.c h2.c := by rw [e2]; exact (Fr.refl _).sfr _ (fun _ => ⟨rfl, by decide, by decide⟩)
  have R2 := R.keepI F2
  have m2 : h2.fr 1712 o = some x := by rw [e2]; exact sfr_same _ _ _ _
  have p2 : h2.fi = h.fi ∧ h2.sz = h.sz ∧ h2.rc = h.rc ∧ h2.rs = h.rs ∧ h2.kd = h.kd := by rw [e2]; exact ⟨rfl, rfl, rfl, rfl, rfl⟩
  clear e2
  have t2 : h2.fr 105 x = some A.t := R2.xt
  have r2 : h2.fr 1602 A.t = some A.rl := R2.rw_
  rw [m2, adr_some, t2, adr_some, r2, adr_some]
  refine ⟨nn_of rfl R2.xk, nn_of rfl R2.tk, nn_of rfl R2.rl.k, ?_⟩
  refine pc_size (h := h2.srm 0 0) R2.rl (pu ⟨nn_of rfl (by rw [p2.2.2.2.2]; exact hk), ?_⟩)
  (try simp (disch := omega) only [L_le, le_L, L_lt, lt_L, eq_L, L_eq, I_le, I_lt, I_eq, I_ni, add_L, L_add, I_add, mul_L, L_mul, I_mul, sub_L, L_sub, I_sub, div_L, rem_L])
  intro h10 e10
  have Y0 : InB h h10 o x (8 * T.n) [] 0 := by
    subst e10
    refine ⟨⟨fun e he => absurd he (by simp), List.Pairwise.nil⟩, ⟨by rw [show ((h2.sfi 1700 o (I (T.n * 8))).c.kd o) = h2.kd o from rfl, p2.2.2.2.2]; exact hk, m2, ?_, ?_, ?_, ?_⟩, F2.sfi _ (fun _ => ⟨rfl, by decide, by decide⟩), p2.2.1, p2.2.2.1, p2.2.2.2.1, by rw [show (h2.sfi 1700 o (I (T.n * 8))).sz = h2.sz from rfl, p2.2.1]; exact ho⟩
    · rw [Nat.mul_comm 8]; exact sfi_same _ _ _ _
    · show (h2.sfi 1700 o (I (T.n * 8))).fi 1707 o = 0
      rw [sfi_ne _ _ _ _ (by decide), p2.1]; exact hz _
    · show (h2.sfi 1700 o (I (T.n * 8))).fi 1708 o = 0
      rw [sfi_ne _ _ _ _ (by decide), p2.1]; exact hz _
    · show (h2.sfi 1700 o (I (T.n * 8))).fi 1709 o = 0
      rw [sfi_ne _ _ _ _ (by decide), p2.1]; exact hz _
  clear e10 F2 R2 m2 p2 t2 r2
  have c0 := Y0.rc
  have d0 := Y0.rs
  refine ⟨nl320 (by omega) (by omega), ?_⟩
  intro g1 e1
  refine ⟨Y0.nn e1, ?_⟩
  intro h1 e2
  have Y1 := Y0.one 1701 40 (by decide) (by simp) ⟨by omega, by omega⟩ e1 e2
  clear Y0 e1 e2
  have c1 := Y1.rc
  have d1 := Y1.rs
  refine ⟨nl320 (by omega) (by omega), ?_⟩
  intro g2 e1
  refine ⟨Y1.nn e1, ?_⟩
  intro h3 e2
  have Y2 := Y1.one 1702 40 (by decide) (by simp) ⟨by omega, by omega⟩ e1 e2
  clear Y1 e1 e2
  have c2 := Y2.rc
  have d2 := Y2.rs
  refine ⟨nl320 (by omega) (by omega), ?_⟩
  intro g3 e1
  refine ⟨Y2.nn e1, ?_⟩
  intro h4 e2
  have Y3 := Y2.one 1703 40 (by decide) (by simp) ⟨by omega, by omega⟩ e1 e2
  clear Y2 e1 e2
  have c3 := Y3.rc
  have d3 := Y3.rs
  refine ⟨nl320 (by omega) (by omega), ?_⟩
  intro g4 e1
  refine ⟨Y3.nn e1, ?_⟩
  intro h5 e2
  have Y4 := Y3.one 1704 40 (by decide) (by simp) ⟨by omega, by omega⟩ e1 e2
  clear Y3 e1 e2
  have c4 := Y4.rc
  have d4 := Y4.rs
  refine ⟨nl320 (by omega) (by omega), ?_⟩
  intro g5 e1
  refine ⟨Y4.nn e1, ?_⟩
  intro h6 e2
  have Y5 := Y4.one 1705 42 (by decide) (by simp) ⟨by omega, by omega⟩ e1 e2
  clear Y4 e1 e2
  have c5 := Y5.rc
  have d5 := Y5.rs
  refine ⟨nl320 (by omega) (by omega), ?_⟩
  intro g6 e1
  refine ⟨Y5.nn e1, ?_⟩
  intro h7 e2
  have Y6 := Y5.one 1706 42 (by decide) (by simp) ⟨by omega, by omega⟩ e1 e2
  clear Y5 e1 e2
  have c6 := Y6.rc
  have d6 := Y6.rs
  refine ⟨nl320 (by omega) (by omega), ?_⟩
  intro g7 e1
  refine ⟨Y6.nn e1, ?_⟩
  intro h8 e2
  have Y7 := Y6.one 1710 40 (by decide) (by simp) ⟨by omega, by omega⟩ e1 e2
  clear Y6 e1 e2
  have c7 := Y7.rc
  have d7 := Y7.rs
  refine ⟨nl320 (by omega) (by omega), ?_⟩
  intro g8 e1
  refine ⟨Y7.nn e1, ?_⟩
  intro h9 e2
  have Y8 := Y7.one 1711 42 (by decide) (by simp) ⟨by omega, by omega⟩ e1 e2
  clear Y7 e1 e2
  have c8 := Y8.rc
  have d8 := Y8.rs
  clear c0 d0 c1 d1 c2 d2 c3 d3 c4 d4 c5 d5 c6 d6 c7 d7 g1 h1 g2 h3 g3 h4 g4 h5 g5 h6 g6 h7 g7 h8 g8 h10 h2
  -- the rows are there
  have q1 : IRow h9.c o 1701 (h.sz + 0) 40 := Y8.r.1 (1701, h.sz + 0, 40) (by simp)
  have q2 : IRow h9.c o 1702 (h.sz + 1) 40 := Y8.r.1 (1702, h.sz + 1, 40) (by simp)
  have q3 : IRow h9.c o 1703 (h.sz + 2) 40 := Y8.r.1 (1703, h.sz + 2, 40) (by simp)
  have q4 : IRow h9.c o 1704 (h.sz + 3) 40 := Y8.r.1 (1704, h.sz + 3, 40) (by simp)
  have q5 : IRow h9.c o 1705 (h.sz + 4) 42 := Y8.r.1 (1705, h.sz + 4, 42) (by simp)
  have q6 : IRow h9.c o 1706 (h.sz + 5) 42 := Y8.r.1 (1706, h.sz + 5, 42) (by simp)
  have q7 : IRow h9.c o 1710 (h.sz + 6) 40 := Y8.r.1 (1710, h.sz + 6, 40) (by simp)
  have q8 : IRow h9.c o 1711 (h.sz + 7) 42 := Y8.r.1 (1711, h.sz + 7, 42) (by simp)
  have o9 := Y8.ol
  have M9 := Y8.M
  have F9 := Y8.F
  have hsz9 := Y8.sz
  clear Y8
  have Y : IxR h9.c o (h.sz + 0, h.sz + 1, h.sz + 2, h.sz + 3, h.sz + 4, h.sz + 5) :=
    ⟨q1.fr, q2.fr, q3.fr, q4.fr, q5.fr, q6.fr, q1.kd, q2.kd, q3.kd, q4.kd, q5.kd, q6.kd, q1.l, q2.l, q3.l, q4.l, q5.l, q6.l, by show h.sz + 0 ≠ h.sz + 1; omega, by show h.sz + 0 ≠ h.sz + 2; omega, by show h.sz + 0 ≠ h.sz + 3; omega, by show h.sz + 1 ≠ h.sz + 2; omega, by show h.sz + 1 ≠ h.sz + 3; omega, by show h.sz + 2 ≠ h.sz + 3; omega, by show h.sz + 4 ≠ h.sz + 5; omega⟩
  refine xlp_cnt (8 * T.n) (fun k q U => q = I k ∧ Fr (fun u b => u = 0 ∧ b = h.sz + 0) h9.c U.c ∧ U.ai (h.sz + 0) = (fun i => if i < k then -1 else 0) ∧ U.rc = h9.rc ∧ U.rs = h9.rs) ⟨rfl, Fr.refl _, by rw [show h9.ai (h.sz + 0) = fun _ => 0 from q1.z]; funext i; simp, rfl, rfl⟩ ?_
  rintro k _ U K hk' ⟨rfl, FU, aU, cU, sU⟩ hK
  have kU : (U.kd o).1 = 17 := by rw [show U.kd o = h9.kd o from FU.kd o o9]; exact M9.k
  have fU : ∀ f, f ≠ 0 → U.fi f o = h9.fi f o := fun f hf => FU.fi f o o9 (fun hh => hf hh.1)
  have rU : ∀ f, f ≠ 0 → U.fr f o = h9.fr f o := fun f hf => FU.fr f o o9 (fun hh => hf hh.1)
  refine ⟨nn_of rfl kU, ?_⟩
  rw [fU 1700 (by decide), show h9.fi 1700 o = I (8 * T.n) from M9.m]
  by_cases e : k = 8 * T.n
  · subst e
    refine brT (by (first | omega | ((try simp (disch := omega) only [L_le, le_L, L_lt, lt_L, eq_L, L_eq, I_le, I_lt, I_eq, I_ni, add_L, L_add, I_add, mul_L, L_mul, I_mul, sub_L, L_sub, I_sub, div_L, rem_L]); done) | ((try simp (disch := omega) only [L_le, le_L, L_lt, lt_L, eq_L, L_eq, I_le, I_lt, I_eq, I_ni, add_L, L_add, I_add, mul_L, L_mul, I_mul, sub_L, L_sub, I_sub, div_L, rem_L]); omega))) ?_
    have FUI : Fr (WIo o) h.c U.c := F9.trans' FU (fun u b hb hh => absurd hh.2 (by have : b < h.sz := hb; omega))
    have YU : IxR U.c o (h.sz + 0, h.sz + 1, h.sz + 2, h.sz + 3, h.sz + 4, h.sz + 5) := Y.keep o9 FU (fun f hf hh => by omega)
    have KU : TjB U.c L A G T x o (h.sz + 0, h.sz + 1, h.sz + 2, h.sz + 3, h.sz + 4, h.sz + 5) := ⟨S.keepI FUI, R.keepI FUI, ⟨kU, Nat.lt_of_lt_of_le o9 FU.sz, by rw [show U.c.fr 1712 o = h9.fr 1712 o from rU _ (by decide)]; exact M9.mx⟩, YU⟩
    have zU : ∀ j, j ≠ 0 → j < 8 → U.ai (h.sz + j) = h9.ai (h.sz + j) := fun j hj hj8 => FU.ai _ (by show h.sz + j < h9.sz; omega) (fun hh => by omega)
    have RU : TjR U.c o (h.sz + 0, h.sz + 1, h.sz + 2, h.sz + 3, h.sz + 4, h.sz + 5) (8 * T.n) tj0 := by
      refine ⟨fun i hi => ?_, fun i hi => ?_, fun k hk => absurd hk (Nat.not_lt_zero _), fun i hi => ?_, fun i hi => ?_, fun k hk => absurd hk (Nat.not_lt_zero _), ?_, ?_, ?_⟩
      · show U.ai (h.sz + 1) i = _
        rw [zU 1 (by decide) (by decide), show h9.ai (h.sz + 1) = fun _ => 0 from q2.z]; rfl
      · show U.ai (h.sz + 2) i = _
        rw [zU 2 (by decide) (by decide), show h9.ai (h.sz + 2) = fun _ => 0 from q3.z]; rfl
      · show U.ai (h.sz + 4) i = _
        rw [zU 4 (by decide) (by decide), show h9.ai (h.sz + 4) = fun _ => 0 from q5.z]
        rw [if_neg (fun hh => hh.1 rfl)]
      · show U.ai (h.sz + 0) i = _
        rw [aU]
        exact if_pos hi
      · exact (fU 1707 (by decide)).trans M9.a
      · exact (fU 1708 (by decide)).trans M9.b
      · exact (fU 1709 (by decide)).trans M9.d
    refine px_all W X KU ((fU 1700 (by decide)).trans M9.m) (Fr.refl _) RU ?_
    intro h' s F' R' I' v' N' c' s'
    have K' := KU.keep F'
    have nf : ∀ f a, f ≠ 0 → f ≠ 1707 → f ≠ 1708 → f ≠ 1709 → ¬ WT (h.sz + 0, h.sz + 1, h.sz + 2, h.sz + 3, h.sz + 4, h.sz + 5) o f a := fun f a h0 h1 h2 h3 => WT.nof h0 h1 h2 h3
    have oU : o < U.c.sz := Nat.lt_of_lt_of_le o9 FU.sz
    have szU : h9.sz ≤ U.c.sz := FU.sz
    have na : ∀ j, 6 ≤ j → j < 8 → ¬ WT (h.sz + 0, h.sz + 1, h.sz + 2, h.sz + 3, h.sz + 4, h.sz + 5) o 0 (h.sz + j) := by
      rintro j hj hj8 (⟨_, hh⟩ | ⟨hh, _⟩)
      · rcases hh with hh | hh | hh | hh | hh | hh
        · have : h.sz + j = h.sz + 0 := hh
          omega
        · have : h.sz + j = h.sz + 1 := hh
          omega
        · have : h.sz + j = h.sz + 2 := hh
          omega
        · have : h.sz + j = h.sz + 3 := hh
          omega
        · have : h.sz + j = h.sz + 4 := hh
          omega
        · have : h.sz + j = h.sz + 5 := hh
          omega
      · omega
    have hd := tjdone I' v' (fun v w hh => X.edV W hh)
    have hp0 : s.pd = 0 := Nat.eq_zero_of_not_pos (fun hh => by
      have a9 : s.ord (s.pile 0) ≠ 0 ∧ s.kn (s.pile 0) = none := I'.p1 0 hh
      obtain ⟨k9, _, e9⟩ := hd.1 _ (I'.a3 _ a9.1)
      rw [a9.2] at e9
      exact absurd e9 (by simp))
    refine hQ h' (h.sz + 0, h.sz + 1, h.sz + 2, h.sz + 3, h.sz + 4, h.sz + 5) (h.sz + 6) (h.sz + 7) s (FUI.trans' F' ?_) ⟨K', ⟨?_, ?_, ?_, ?_, ?_, ?_, ?_, ?_, ?_, ?_⟩, R', ?_, ⟨hd.1, hd.2.1, hd.2.2.1, hd.2.2.2.1, hd.2.2.2.2.1, hd.2.2.2.2.2, by have := N'.1; have := N'.2; omega, hp0⟩⟩ (fun k hk => ?_) (fun k hk => ?_) ⟨Nat.le_refl _, Nat.le_add_right _ _, Nat.le_add_right _ _, Nat.le_add_right _ _, Nat.le_add_right _ _, Nat.le_add_right _ _, Nat.le_add_right _ _, Nat.le_add_right _ _⟩ (by rw [c', cU, c8]) (by rw [s', sU, d8])
    · rintro f b hb (⟨_, hh⟩ | ⟨hh, rfl⟩)
      · have hb' : b < h.sz := hb
        rcases hh with hh | hh | hh | hh | hh | hh
        · have : b = h.sz + 0 := hh
          omega
        · have : b = h.sz + 1 := hh
          omega
        · have : b = h.sz + 2 := hh
          omega
        · have : b = h.sz + 3 := hh
          omega
        · have : b = h.sz + 4 := hh
          omega
        · have : b = h.sz + 5 := hh
          omega
      · exact ⟨rfl, by omega, by omega⟩
    · rw [F'.fr _ _ oU (nf _ _ (by decide) (by decide) (by decide) (by decide))]; exact (rU 1710 (by decide)).trans q7.fr
    · rw [F'.fr _ _ oU (nf _ _ (by decide) (by decide) (by decide) (by decide))]; exact (rU 1711 (by decide)).trans q8.fr
    · rw [F'.kd _ (Nat.lt_of_lt_of_le q7.l FU.sz), FU.kd _ q7.l]; exact q7.kd
    · rw [F'.kd _ (Nat.lt_of_lt_of_le q8.l FU.sz), FU.kd _ q8.l]; exact q8.kd
    · exact Nat.lt_of_lt_of_le (Nat.lt_of_lt_of_le q7.l FU.sz) F'.sz
    · exact Nat.lt_of_lt_of_le (Nat.lt_of_lt_of_le q8.l FU.sz) F'.sz
    · show h.sz + 0 ≠ h.sz + 6; omega
    · show h.sz + 5 ≠ h.sz + 7; omega
    · show h.sz + 3 ≠ h.sz + 6; omega
    · exact ⟨by show h.sz + 6 ≠ h.sz + 1; omega, by show h.sz + 6 ≠ h.sz + 2; omega, by show h.sz + 7 ≠ h.sz + 4; omega⟩
    · rw [F'.fi _ _ oU (nf _ _ (by decide) (by decide) (by decide) (by decide))]; exact (fU 1700 (by decide)).trans M9.m
    · rw [show h'.ai (h.sz + 6) = U.ai (h.sz + 6) from F'.ai _ (Nat.lt_of_lt_of_le q7.l FU.sz) (na 6 (by decide) (by decide)), zU 6 (by decide) (by decide), show h9.ai (h.sz + 6) = fun _ => 0 from q7.z]
    · rw [show h'.ai (h.sz + 7) = U.ai (h.sz + 7) from F'.ai _ (Nat.lt_of_lt_of_le q8.l FU.sz) (na 7 (by decide) (by decide)), zU 7 (by decide) (by decide), show h9.ai (h.sz + 7) = fun _ => 0 from q8.z]
  have hk'' : k < 8 * T.n := by omega
  refine brF (by (first | omega | ((try simp (disch := omega) only [L_le, le_L, L_lt, lt_L, eq_L, L_eq, I_le, I_lt, I_eq, I_ni, add_L, L_add, I_add, mul_L, L_mul, I_mul, sub_L, L_sub, I_sub, div_L, rem_L]); done) | ((try simp (disch := omega) only [L_le, le_L, L_lt, lt_L, eq_L, L_eq, I_le, I_lt, I_eq, I_ni, add_L, L_add, I_add, mul_L, L_mul, I_mul, sub_L, L_sub, I_sub, div_L, rem_L]); omega))) ?_
  rw [rU 1701 (by decide), show h9.fr 1701 o = some (h.sz + 0) from q1.fr, adr_some]
  have kd1 : U.kd (h.sz + 0) = (40, 320) := by rw [show U.kd (h.sz + 0) = h9.kd (h.sz + 0) from FU.kd _ q1.l]; exact q1.kd
  refine ⟨ix_of rfl kd1 (by omega) (by decide), ?_⟩
  rw [I_ni (by omega)]
  intro h3 e3
  (try simp (disch := omega) only [L_le, le_L, L_lt, lt_L, eq_L, L_eq, I_le, I_lt, I_eq, I_ni, add_L, L_add, I_add, mul_L, L_mul, I_mul, sub_L, L_sub, I_sub, div_L, rem_L])
  subst e3
  refine hK _ _ hk'' ⟨rfl, FU.sai _ _ (fun _ => ⟨rfl, rfl⟩), ?_, cU, sU⟩
  rw [sai_ai, if_pos rfl, aU]
  funext i
  by_cases hi : i = k
  · subst hi
    rw [updN_same, if_pos (by omega)]
  · rw [updN_ne _ _ hi]
    by_cases hl : i < k
    · rw [if_pos hl, if_pos (by omega)]
    · rw [if_neg hl, if_neg (by omega)]
end
