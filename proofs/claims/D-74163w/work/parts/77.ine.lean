/-! plain: cnh -/
set_option maxRecDepth 100000
section
variable {G : Gv} {T : Tv} {L : GA} {A : TA} {x o : Nat} {B : IA} {tu un ga : Nat} {s : TjS} {gv : Nat → Int32} {S : Ist}

/-- the pile alone is written. -/
def wP (B : IA) : Nat → Nat → Prop := fun f b => f = 0 ∧ b = B.pi

theorem RkB.keepP {c c' : HC} (K : RkB c L A G T x o B tu un s ga gv) (F : Fr (wP B) c c') : RkB c' L A G T x o B tu un s ga gv := by
  have R := K.I.K.R
  have Tr := K.I.Tr
  have ol := K.I.K.J.l
  have Y := K.I.K.Y
  have nf : ∀ f a, f ≠ 0 → ¬ wP B f a := fun f a hf hh => hf hh.1
  have n0 : ∀ {b t n : Nat}, c.kd b = (t, n) → (t, n) ≠ (40, 320) → ¬ wP B 0 b := fun {b t n} hb hn hh => hn (by rw [← hb, hh.2]; exact Y.k4)
  have nb : ∀ {b : Nat}, b ≠ B.pi → ¬ wP B 0 b := fun {b} hb hh => hb hh.2
  have S' : GS c' L G := K.I.K.S.keep F ⟨fun a => ⟨nf _ _ (by decide), nf _ _ (by decide), nf _ _ (by decide), nf _ _ (by decide), nf _ _ (by decide), nf _ _ (by decide)⟩, fun q hq => nf _ _ (by decide),
    fun p hp => ⟨nf _ _ (by decide), nf _ _ (by decide), n0 (K.I.K.S.pr p hp).sl.dk (by simp), n0 (K.I.K.S.pr p hp).k2 (by simp)⟩⟩
  have R' : TrR c' L A G T x := R.keep F (fun f a hf => nf f a (by omega)) (nf _ _ (by decide)) (nf _ _ (by decide)) (n0 R.rl.dk (by simp)) (fun k hk => n0 (R.nd k hk).ls.dk (by simp))
  have Y' : IxR c' o B := Y.keep ol F (fun f hf => nf _ _ (by omega))
  have a1 := F.ai _ Y.l1 (nb Y.d14)
  have a2 := F.ai _ Y.l2 (nb Y.d24)
  have a3 := F.ai _ Y.l3 (nb Y.d34)
  have a5 := F.ai _ Y.l5 (n0 Y.k5 (by simp))
  have a6 := F.ai _ Y.l6 (n0 Y.k6 (by simp))
  have TR := K.I.R
  have fi := fun f (hf : f ≠ 0) => F.fi f o ol (nf f o hf)
  have fr := fun f (hf : f ≠ 0) => F.fr f o ol (nf f o hf)
  refine ⟨⟨⟨S', R', ⟨by rw [F.kd _ ol]; exact K.I.K.J.k, Nat.lt_of_lt_of_le ol F.sz, by rw [fr _ (by decide)]; exact K.I.K.J.mx⟩, Y'⟩,
    ⟨by rw [fr _ (by decide)]; exact Tr.f1, by rw [fr _ (by decide)]; exact Tr.f2, by rw [F.kd _ Tr.l1]; exact Tr.k1, by rw [F.kd _ Tr.l2]; exact Tr.k2, Nat.lt_of_lt_of_le Tr.l1 F.sz, Nat.lt_of_lt_of_le Tr.l2 F.sz, Tr.d1, Tr.d2, Tr.d3, Tr.d4⟩,
    ⟨fun i hi => by rw [a2]; exact TR.od i hi, fun i hi => by rw [a3]; exact TR.lw i hi, fun k hk => by rw [K.I.F.p] at hk; exact absurd hk (Nat.not_lt_zero _), fun i hi => by rw [a5]; exact TR.ip i hi, fun i hi => by rw [a1]; exact TR.kn i hi, fun k hk => by rw [a6]; exact TR.ik k hk,
     by rw [fi _ (by decide)]; exact TR.n1, by rw [fi _ (by decide)]; exact TR.n2, by rw [fi _ (by decide)]; exact TR.n3⟩, by rw [fi _ (by decide)]; exact K.I.m, K.I.F⟩, ?_, ?_⟩
  · have U := K.U
    have pl := fun p hp => (K.I.K.S.pr p hp).l
    refine ⟨fun p hp => ?_, fun p u hp hu he => ?_, fun p u e hp hu he => ?_, fun p hp => ?_, fun p u hp hu => ?_⟩
    · obtain ⟨u1, u2, u3⟩ := U.f p hp
      exact ⟨by rw [F.fr _ _ (pl p hp) (nf _ _ (by decide))]; exact u1, by rw [F.kd _ u3]; exact u2, Nat.lt_of_lt_of_le u3 F.sz⟩
    · obtain ⟨u1, u2, u3⟩ := U.f p hp
      rw [F.ar _ u3 (n0 u2 (by simp))]; exact U.n p u hp hu he
    · obtain ⟨u1, u2, u3⟩ := U.f p hp
      obtain ⟨a, ha, hP⟩ := U.s p u e hp hu he
      exact ⟨a, by rw [F.ar _ u3 (n0 u2 (by simp))]; exact ha, PtR.keep F (fun f a hf => nf f a (by omega)) hP⟩
    · obtain ⟨u1, u2, u3⟩ := U.w p hp
      exact ⟨by rw [F.fr _ _ (pl p hp) (nf _ _ (by decide))]; exact u1, by rw [F.kd _ u3]; exact u2, Nat.lt_of_lt_of_le u3 F.sz⟩
    · obtain ⟨u1, u2, u3⟩ := U.w p hp
      rw [F.ai _ u3 (n0 u2 (by simp))]; exact U.v p u hp hu
  · exact ⟨by rw [F.fr _ _ R.tl (nf _ _ (by decide))]; exact K.Gn.f, by rw [F.kd _ K.Gn.l]; exact K.Gn.k, Nat.lt_of_lt_of_le K.Gn.l F.sz, fun j hj => by rw [F.ai _ K.Gn.l (n0 K.Gn.k (by simp))]; exact K.Gn.v j hj⟩

theorem Rch.rev {E : Nat → Nat → Prop} {a b : Nat} (h : Rch (fun a b => E b a) a b) : Rch E b a :=
  Rch.ind (P := fun z => Rch E b z) (Rch.refl _) (fun _ _ e _ ih => ih.trans (Rch.one e)) h

/-- how far a search is. -/
def SpI (h : AH) (B : IA) (T : Tv) (G : Gv) (D : Nat → Nat → Prop) (i0 : Nat) (U : AH) (N : Nat → Prop) (pl : Nat → Nat) (n : Nat) : Prop :=
  (Fr (wP B) h.c U.c) ∧
  (U.kd h.sz = (42, 320)) ∧
  (h.sz < U.sz) ∧
  (∀ j, j < 320 → U.ai h.sz j = iP (N j)) ∧
  (∀ k, k < n → U.ai B.pi k = I (pl k)) ∧
  (∀ k, k < n → N (pl k)) ∧
  (∀ j, N j → ∃ k, k < n ∧ pl k = j) ∧
  (∀ j, N j → T.is G j ∧ Rch D i0 j) ∧
  (n = cnP N (8 * T.n)) ∧
  (N i0) ∧
  (U.rc = h.rc - 1) ∧
  (U.rs = h.rs - 320)
theorem SpI.F {h : AH} {B : IA} {T : Tv} {G : Gv} {D : Nat → Nat → Prop} {i0 : Nat} {U : AH} {N : Nat → Prop} {pl : Nat → Nat} {n : Nat} (h9 : SpI h B T G D i0 U N pl n) : Fr (wP B) h.c U.c := h9.1
theorem SpI.k {h : AH} {B : IA} {T : Tv} {G : Gv} {D : Nat → Nat → Prop} {i0 : Nat} {U : AH} {N : Nat → Prop} {pl : Nat → Nat} {n : Nat} (h9 : SpI h B T G D i0 U N pl n) : U.kd h.sz = (42, 320) := h9.2.1
theorem SpI.l {h : AH} {B : IA} {T : Tv} {G : Gv} {D : Nat → Nat → Prop} {i0 : Nat} {U : AH} {N : Nat → Prop} {pl : Nat → Nat} {n : Nat} (h9 : SpI h B T G D i0 U N pl n) : h.sz < U.sz := h9.2.2.1
theorem SpI.a {h : AH} {B : IA} {T : Tv} {G : Gv} {D : Nat → Nat → Prop} {i0 : Nat} {U : AH} {N : Nat → Prop} {pl : Nat → Nat} {n : Nat} (h9 : SpI h B T G D i0 U N pl n) : ∀ j, j < 320 → U.ai h.sz j = iP (N j) := h9.2.2.2.1
theorem SpI.p {h : AH} {B : IA} {T : Tv} {G : Gv} {D : Nat → Nat → Prop} {i0 : Nat} {U : AH} {N : Nat → Prop} {pl : Nat → Nat} {n : Nat} (h9 : SpI h B T G D i0 U N pl n) : ∀ k, k < n → U.ai B.pi k = I (pl k) := h9.2.2.2.2.1
theorem SpI.p1 {h : AH} {B : IA} {T : Tv} {G : Gv} {D : Nat → Nat → Prop} {i0 : Nat} {U : AH} {N : Nat → Prop} {pl : Nat → Nat} {n : Nat} (h9 : SpI h B T G D i0 U N pl n) : ∀ k, k < n → N (pl k) := h9.2.2.2.2.2.1
theorem SpI.p2 {h : AH} {B : IA} {T : Tv} {G : Gv} {D : Nat → Nat → Prop} {i0 : Nat} {U : AH} {N : Nat → Prop} {pl : Nat → Nat} {n : Nat} (h9 : SpI h B T G D i0 U N pl n) : ∀ j, N j → ∃ k, k < n ∧ pl k = j := h9.2.2.2.2.2.2.1
theorem SpI.r {h : AH} {B : IA} {T : Tv} {G : Gv} {D : Nat → Nat → Prop} {i0 : Nat} {U : AH} {N : Nat → Prop} {pl : Nat → Nat} {n : Nat} (h9 : SpI h B T G D i0 U N pl n) : ∀ j, N j → T.is G j ∧ Rch D i0 j := h9.2.2.2.2.2.2.2.1
theorem SpI.m {h : AH} {B : IA} {T : Tv} {G : Gv} {D : Nat → Nat → Prop} {i0 : Nat} {U : AH} {N : Nat → Prop} {pl : Nat → Nat} {n : Nat} (h9 : SpI h B T G D i0 U N pl n) : n = cnP N (8 * T.n) := h9.2.2.2.2.2.2.2.2.1
theorem SpI.i {h : AH} {B : IA} {T : Tv} {G : Gv} {D : Nat → Nat → Prop} {i0 : Nat} {U : AH} {N : Nat → Prop} {pl : Nat → Nat} {n : Nat} (h9 : SpI h B T G D i0 U N pl n) : N i0 := h9.2.2.2.2.2.2.2.2.2.1
theorem SpI.c {h : AH} {B : IA} {T : Tv} {G : Gv} {D : Nat → Nat → Prop} {i0 : Nat} {U : AH} {N : Nat → Prop} {pl : Nat → Nat} {n : Nat} (h9 : SpI h B T G D i0 U N pl n) : U.rc = h.rc - 1 := h9.2.2.2.2.2.2.2.2.2.2.1
theorem SpI.q {h : AH} {B : IA} {T : Tv} {G : Gv} {D : Nat → Nat → Prop} {i0 : Nat} {U : AH} {N : Nat → Prop} {pl : Nat → Nat} {n : Nat} (h9 : SpI h B T G D i0 U N pl n) : U.rs = h.rs - 320 := h9.2.2.2.2.2.2.2.2.2.2.2

theorem SpI.add {h U U1 U2 : AH} {D : Nat → Nat → Prop} {i0 n j : Nat} {N : Nat → Prop} {pl : Nat → Nat} (Z : SpI h B T G D i0 U N pl n) (hpi : B.pi < h.sz) (hn : ¬ N j) (hj : T.is G j ∧ Rch D i0 j) (hlt : j < 8 * T.n) (e1 : U1 = U.sai h.sz j 1) (e2 : U2 = U1.sai B.pi n (I j)) : SpI h B T G D i0 U2 (fun z => N z ∨ z = j) (updN pl n j) (n + 1) := by
  have aq : U2.ai h.sz = updN (U.ai h.sz) j 1 := by rw [e2, sai_ai, if_neg (by omega), e1, sai_ai, if_pos rfl]
  have ap : U2.ai B.pi = updN (U.ai B.pi) n (I j) := by rw [e2, sai_ai, if_pos rfl, e1, sai_ai, if_neg (by omega)]
  refine ⟨?_, by rw [e2, e1]; exact Z.k, by rw [e2, e1]; exact Z.l, fun z hz => ?_, fun k hk => ?_, fun k hk => ?_, fun z hz => ?_, fun z hz => ?_, ?_, .inl Z.i, by rw [e2, e1]; exact Z.c, by rw [e2, e1]; exact Z.q⟩
  · rw [e2, e1]
    exact (Z.F.sai _ _ (fun hh => absurd hh (Nat.lt_irrefl _))).sai _ _ (fun _ => ⟨rfl, rfl⟩)
  · rw [aq]
    by_cases ez : z = j
    · rw [ez, updN_same, iP_pos (.inr rfl)]
    · rw [updN_ne _ _ ez, Z.a z hz]
      exact iP_congr ⟨.inl, fun hh => hh.elim id (fun hh => absurd hh ez)⟩
  · rw [ap]
    by_cases ek : k = n
    · rw [ek, updN_same, updN_same]
    · rw [updN_ne _ _ ek, updN_ne _ _ ek]; exact Z.p k (by omega)
  · by_cases ek : k = n
    · rw [ek, updN_same]; exact .inr rfl
    · rw [updN_ne _ _ ek]; exact .inl (Z.p1 k (by omega))
  · rcases hz with hz | hz
    · obtain ⟨k, hk, e⟩ := Z.p2 z hz
      exact ⟨k, by omega, by rw [updN_ne _ _ (by omega)]; exact e⟩
    · exact ⟨n, by omega, by rw [updN_same]; exact hz.symm⟩
  · rcases hz with hz | hz
    · exact Z.r z hz
    · rw [hz]; exact hj
  · rw [cnP_add hlt hn, ← Z.m]

theorem px_spanOf {h : AH} (W : G.WF) (X : T.WF G) (IS : IsI S G T gv) (K0 : RkB h.c L A G T x o B tu un s ga gv) (hc : 1 ≤ h.rc) (hs : 320 ≤ h.rs) {i0 : Nat} (hi0 : T.is G i0) (r : Bool) {Q : Int32 → AH → Prop}
    (hQ : ∀ h', Fr (wP B) h.c h'.c → h'.rc = h.rc - 1 → h'.rs = h.rs - 320 → Q (I (cnP (fun j => if r then Rch S.E j i0 else Rch S.E i0 j) S.M)) h') : wp_X17_spanOf o (I i0) (if r then 1 else 0) h Q := by
  have h40 := X.n40
  have hMM := IS.mm
  have hlt0 := X.isLt hi0
  have pil : B.pi < h.sz := K0.I.K.Y.l4
  have f4 : h.fr 1704 o = some B.pi := K0.I.K.Y.f4
  have ol : o < h.sz := K0.I.K.J.l
  obtain ⟨D, hD⟩ : ∃ D : Nat → Nat → Prop, ∀ a b, D a b ↔ if r then T.ed G b a else T.ed G a b := ⟨fun a b => if r then T.ed G b a else T.ed G a b, fun _ _ => Iff.rfl⟩
  have hDV : ∀ a b, D a b → T.is G a ∧ T.is G b := fun a b hh => by
    have := (hD a b).1 hh
    cases r with
    | true => exact ⟨(X.edV W this).2, (X.edV W this).1⟩
    | false => exact X.edV W this
  have hDr : ∀ j, Rch D i0 j ↔ if r then Rch S.E j i0 else Rch S.E i0 j := fun j => by
    cases r with
    | true =>
      have e : D = fun a b => T.ed G b a := funext fun a => funext fun b => propext (hD a b)
      rw [e, IS.ee]
      exact ⟨fun hh => hh.rev, fun hh => Rch.rev (E := fun a b => T.ed G b a) hh⟩
    | false =>
      have e : D = T.ed G := funext fun a => funext fun b => propext (hD a b)
      rw [e, IS.ee]
      exact Iff.rfl
  refine ⟨nl320 hc hs, ?_⟩
  intro h1 e1
  have f41 : h1.fr 1704 o = some B.pi := by rw [e1, new_fr, if_neg (by omega)]; exact f4
  have k1 : (h1.kd o).1 = 17 := by rw [e1, new_kd, if_neg (by omega)]; exact K0.I.K.J.k
  have kp : h1.kd B.pi = (40, 320) := by rw [e1, new_kd, if_neg (by omega)]; exact K0.I.K.Y.k4
  refine ⟨nn_of rfl k1, ?_⟩
  rw [f41, adr_some]
  refine ⟨ix_of (k := 0) rfl kp (by decide) (by decide), ?_⟩
  intro h3 e3
  have kn : h3.kd h.sz = (42, 320) := by rw [e3, e1]; show (h.new 42 (ni 320) (ni 320)).kd h.sz = _; rw [new_kd, if_pos rfl]; rfl
  refine ⟨ix_of rfl kn (by omega) (by decide), ?_⟩
  rw [I_ni (by omega)]
  intro h4 e4
  have Z0 : SpI h B T G D i0 h4 (fun j => j = i0) (fun _ => i0) 1 := by
    have aq : h4.ai h.sz = updN (fun _ => 0) i0 1 := by
      rw [e4, sai_ai, if_pos rfl, e3, sai_ai, if_neg (by omega), e1]
      have : (h.new 42 (ni 320) (ni 320)).ai h.sz = fun _ => 0 := by rw [new_ai, if_pos rfl]
      rw [this]; rfl
    refine ⟨?_, by rw [e4]; exact kn, ?_, fun j hj => ?_, fun k hk => ?_, fun k hk => rfl, fun j hj => ⟨0, by omega, hj.symm⟩, fun j hj => ?_, (cnP_one hlt0).symm, rfl, by rw [e4, e3, e1]; rfl, by rw [e4, e3, e1]; rfl⟩
    · rw [e4, e3, e1]
      exact (((Fr.refl _).new _ _ _).sai _ _ (fun _ => ⟨rfl, rfl⟩)).sai _ _ (fun hh => absurd hh (Nat.lt_irrefl _))
    · rw [e4, e3, e1]
      show h.sz < (h.new 42 (ni 320) (ni 320)).sz
      rw [new_sz]; omega
    · rw [aq]
      by_cases ej : j = i0
      · rw [ej, updN_same, iP_pos rfl]
      · rw [updN_ne _ _ ej, iP_neg ej]
    · have : k = 0 := by omega
      subst this
      rw [e4, sai_ai, if_neg (by omega), e3, sai_ai, if_pos rfl]
      exact updN_same _ _ _
    · rw [hj]; exact ⟨hi0, Rch.refl _⟩
  clear e1 e3 e4 f41 k1 kp kn h1 h3
  refine xlp_cnt (8 * T.n) (fun k q U => ∃ n N pl, q = (I n, I k) ∧ k ≤ n ∧ SpI h B T G D i0 U N pl n ∧ ∀ k', k' < k → ∀ j, D (pl k') j → N j) ⟨1, _, _, rfl, Nat.zero_le _, Z0, fun k' hk' => absurd hk' (Nat.not_lt_zero _)⟩ ?_
  clear Z0 h4
  intro k q U K hk hh hK
  obtain ⟨n, N, pl, hq, hkn, Z, hcl⟩ := hh
  rw [hq]
  clear hq q
  have hn8 : n ≤ 8 * T.n := by rw [Z.m]; exact cnP_le _ _
  by_cases e : k = n
  · refine brT (by (first | omega | ((try simp (disch := omega) only [L_le, le_L, L_lt, lt_L, eq_L, L_eq, I_le, I_lt, I_eq, I_ni, add_L, L_add, I_add, mul_L, L_mul, I_mul, sub_L, L_sub, I_sub, div_L, rem_L]); done) | ((try simp (disch := omega) only [L_le, le_L, L_lt, lt_L, eq_L, L_eq, I_le, I_lt, I_eq, I_ni, add_L, L_add, I_add, mul_L, L_mul, I_mul, sub_L, L_sub, I_sub, div_L, rem_L]); omega))) ?_
    have hall : ∀ j, N j ↔ Rch D i0 j := fun j => by
      refine ⟨fun hh => (Z.r j hh).2, fun hh => ?_⟩
      refine Classical.byContradiction fun hn => ?_
      obtain ⟨a, b, ha, hb, hab, _⟩ := hh.leaves (S := N) Z.i hn
      obtain ⟨k', hk', e'⟩ := Z.p2 a ha
      exact hb (hcl k' (by omega) b (by rw [e']; exact hab))
    have := hQ U Z.F Z.c Z.q
    rw [hMM, ← cnP_congr (P := N) (fun j _ => (hall j).trans (hDr j)), ← Z.m] at this
    exact this
  have hkn' : k < n := by omega
  refine brF (by (first | omega | ((try simp (disch := omega) only [L_le, le_L, L_lt, lt_L, eq_L, L_eq, I_le, I_lt, I_eq, I_ni, add_L, L_add, I_add, mul_L, L_mul, I_mul, sub_L, L_sub, I_sub, div_L, rem_L]); done) | ((try simp (disch := omega) only [L_le, le_L, L_lt, lt_L, eq_L, L_eq, I_le, I_lt, I_eq, I_ni, add_L, L_add, I_add, mul_L, L_mul, I_mul, sub_L, L_sub, I_sub, div_L, rem_L]); omega))) ?_
  dsimp only
  refine xlp_cnt (8 * T.n) (fun i q U2 => ∃ n2 N2 pl2, q = (I n2, I i) ∧ k < n2 ∧ SpI h B T G D i0 U2 N2 pl2 n2 ∧ (∀ k', k' < k → ∀ j, D (pl2 k') j → N2 j) ∧ (∀ j, j < i → D (pl2 k) j → N2 j)) ⟨n, N, pl, rfl, hkn', Z, hcl, fun j hj => absurd hj (Nat.not_lt_zero _)⟩ ?_
  clear Z hcl hn8 e hkn hkn' n N pl U
  intro i q U K2 hi hh hK2
  obtain ⟨n, N, pl, hq, hkn, Z, hcl, hci⟩ := hh
  rw [hq]
  clear hq q
  have hn8 : n ≤ 8 * T.n := by rw [Z.m]; exact cnP_le _ _
  have KU := K0.keepP Z.F
  have mU : U.fi 1700 o = I (8 * T.n) := KU.I.m
  have f4U : U.fr 1704 o = some B.pi := KU.I.K.Y.f4
  refine ⟨nn_of rfl KU.I.K.J.k, ?_⟩
  rw [mU]
  by_cases ei : i = 8 * T.n
  · refine brT (by (first | omega | ((try simp (disch := omega) only [L_le, le_L, L_lt, lt_L, eq_L, L_eq, I_le, I_lt, I_eq, I_ni, add_L, L_add, I_add, mul_L, L_mul, I_mul, sub_L, L_sub, I_sub, div_L, rem_L]); done) | ((try simp (disch := omega) only [L_le, le_L, L_lt, lt_L, eq_L, L_eq, I_le, I_lt, I_eq, I_ni, add_L, L_add, I_add, mul_L, L_mul, I_mul, sub_L, L_sub, I_sub, div_L, rem_L]); omega))) ?_
    (try simp (disch := omega) only [L_le, le_L, L_lt, lt_L, eq_L, L_eq, I_le, I_lt, I_eq, I_ni, add_L, L_add, I_add, mul_L, L_mul, I_mul, sub_L, L_sub, I_sub, div_L, rem_L])
    refine hK _ _ (by omega) ⟨n, N, pl, rfl, hkn, Z, fun k' hk' j hj => ?_⟩
    by_cases ek : k' = k
    · subst ek
      exact hci j (by have := X.isLt (hDV _ _ hj).2; omega) hj
    · exact hcl k' (by omega) j hj
  have hi' : i < 8 * T.n := by omega
  refine brF (by (first | omega | ((try simp (disch := omega) only [L_le, le_L, L_lt, lt_L, eq_L, L_eq, I_le, I_lt, I_eq, I_ni, add_L, L_add, I_add, mul_L, L_mul, I_mul, sub_L, L_sub, I_sub, div_L, rem_L]); done) | ((try simp (disch := omega) only [L_le, le_L, L_lt, lt_L, eq_L, L_eq, I_le, I_lt, I_eq, I_ni, add_L, L_add, I_add, mul_L, L_mul, I_mul, sub_L, L_sub, I_sub, div_L, rem_L]); omega))) ⟨ix_of rfl Z.k (by omega) (by decide), ?_⟩
  rw [I_ni (by omega), Z.a i (by omega)]
  have skip : (D (pl k) i → N i) → K2 (I n, I (i + 1)) U := fun hs2 => hK2 _ _ hi' ⟨n, N, pl, rfl, hkn, Z, hcl, fun j hj hd => by
    by_cases ej : j = i
    · subst ej; exact hs2 hd
    · exact hci j (by omega) hd⟩
  by_cases hN : N i
  · rw [iP_pos hN]
    refine brF (by decide) ?_
    (try simp (disch := omega) only [L_le, le_L, L_lt, lt_L, eq_L, L_eq, I_le, I_lt, I_eq, I_ni, add_L, L_add, I_add, mul_L, L_mul, I_mul, sub_L, L_sub, I_sub, div_L, rem_L])
    exact skip (fun _ => hN)
  rw [iP_neg hN]
  refine brT rfl ?_
  refine px_is (h := U.srm 0 0) W X KU.I.K.S KU.I.K.R KU.I.K.J hi' (pu ?_)
  (try simp (disch := omega) only [L_le, le_L, L_lt, lt_L, eq_L, L_eq, I_le, I_lt, I_eq, I_ni, add_L, L_add, I_add, mul_L, L_mul, I_mul, sub_L, L_sub, I_sub, div_L, rem_L])
  by_cases his : T.is G i
  rotate_left
  · rw [if_neg his]
    exact brT rfl (skip (fun hd => absurd (hDV _ _ hd).2 his))
  rw [if_pos his]
  refine brF (by decide) ?_
  have hpk := Z.r _ (Z.p1 k hkn)
  have hplt := X.isLt hpk.1
  have epk : U.ai B.pi k = I (pl k) := Z.p k hkn
  -- it comes in
  have add : D (pl k) i → ∀ U1, U1 = U.sai h.sz i 1 → ∀ U2, U2 = U1.sai B.pi n (I i) → K2 (I (n + 1), I (i + 1)) U2 := by
    intro hd U1 e1 U2 e2
    refine hK2 _ _ hi' ⟨n + 1, _, _, rfl, by omega, Z.add pil hN ⟨his, hpk.2.trans (Rch.one hd)⟩ hi' e1 e2, fun k' hk' j hj => ?_, fun j hj hd2 => ?_⟩
    · rw [updN_ne _ _ (by omega)] at hj
      exact .inl (hcl k' hk' j hj)
    · rw [updN_ne _ _ (by omega)] at hd2
      by_cases ej : j = i
      · exact .inr ej
      · exact .inl (hci j (by omega) hd2)
  have hn320 : D (pl k) i → n < 320 := fun _ => by
    have h9 := cnP_add (P := N) hi' hN
    have h8 := cnP_le (fun j => N j ∨ j = i) (8 * T.n)
    have := Z.m
    omega
  have kdp : U.kd B.pi = (40, 320) := KU.I.K.Y.k4
  cases r with
  | false =>
    refine brT rfl ⟨nn_of rfl KU.I.K.J.k, ?_⟩
    rw [f4U, adr_some]
    refine ⟨ix_of rfl kdp (by omega) (by decide), ?_⟩
    rw [epk]
    have hdd : D (pl k) i ↔ T.ed G (pl k) i := hD (pl k) i
    refine px_asksFor (h := U.srm 0 0) W X KU.I.K.S KU.I.K.R KU.I.K.J hpk.1 (by omega) (@decide (T.ed G (pl k) i) (Classical.propDecidable _)) (by simp) (pu ?_)
    by_cases he : T.ed G (pl k) i
    · rw [if_pos (by simpa using he)]
      have := hn320 (hdd.2 he)
      refine brF (by decide) ⟨ix_of rfl Z.k (by omega) (by decide), ?_⟩
      intro U1 e1
      have f41 : U1.fr 1704 o = some B.pi := by rw [e1]; exact f4U
      have kk1 : (U1.kd o).1 = 17 := by rw [e1]; exact KU.I.K.J.k
      have kp1 : U1.kd B.pi = (40, 320) := by rw [e1]; exact kdp
      refine ⟨nn_of rfl kk1, ?_⟩
      rw [f41, adr_some]
      refine ⟨ix_of rfl kp1 (by omega) (by decide), ?_⟩
      intro U2 e2
      exact add (hdd.2 he) U1 e1 U2 e2
    · rw [if_neg (by simpa using he)]
      exact brT rfl (skip (fun hd => absurd (hdd.1 hd) he))
  | true =>
    refine brF (fun hh => absurd (show (1 : Int32) = 0 from hh) (by decide)) ⟨nn_of rfl KU.I.K.J.k, ?_⟩
    rw [f4U, adr_some]
    refine ⟨ix_of rfl kdp (by omega) (by decide), ?_⟩
    rw [epk]
    have hdd : D (pl k) i ↔ T.ed G i (pl k) := hD (pl k) i
    refine px_asksFor (h := U.srm 0 0) W X KU.I.K.S KU.I.K.R KU.I.K.J his (by omega) (@decide (T.ed G i (pl k)) (Classical.propDecidable _)) (by simp) (pu ?_)
    by_cases he : T.ed G i (pl k)
    · rw [if_pos (by simpa using he)]
      have := hn320 (hdd.2 he)
      refine brF (by decide) ⟨ix_of rfl Z.k (by omega) (by decide), ?_⟩
      intro U1 e1
      have f41 : U1.fr 1704 o = some B.pi := by rw [e1]; exact f4U
      have kk1 : (U1.kd o).1 = 17 := by rw [e1]; exact KU.I.K.J.k
      have kp1 : U1.kd B.pi = (40, 320) := by rw [e1]; exact kdp
      refine ⟨nn_of rfl kk1, ?_⟩
      rw [f41, adr_some]
      refine ⟨ix_of rfl kp1 (by omega) (by decide), ?_⟩
      intro U2 e2
      exact add (hdd.2 he) U1 e1 U2 e2
    · rw [if_neg (by simpa using he)]
      exact brT rfl (skip (fun hd => absurd (hdd.1 hd) he))
end
