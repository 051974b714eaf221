/-! plain: cna cnb -/
set_option maxRecDepth 100000
section
variable {G : Gv} {T : Tv} {L : GA} {A : TA} {x o : Nat} {B : IA} {tu un ga : Nat} {s : TjS} {gv : Nat → Int32}

/-- what a reckoning writes. -/
def WK (A : TA) (T : Tv) (tu un : Nat) : Nat → Nat → Prop := fun f b => f = 0 ∧ ((∃ k, k < T.n ∧ b = A.va k) ∨ b = tu ∨ b = un)

/-- all that a reckoning reads, but the values. -/
def RkB (c : HC) (L : GA) (A : TA) (G : Gv) (T : Tv) (x o : Nat) (B : IA) (tu un : Nat) (s : TjS) (ga : Nat) (gv : Nat → Int32) : Prop :=
  (InR c L A G T x o B tu un s) ∧
  (RuR c L G) ∧
  (GnR c A ga gv)
theorem RkB.I {c : HC} {L : GA} {A : TA} {G : Gv} {T : Tv} {x o : Nat} {B : IA} {tu un : Nat} {s : TjS} {ga : Nat} {gv : Nat → Int32} (h9 : RkB c L A G T x o B tu un s ga gv) : InR c L A G T x o B tu un s := h9.1
theorem RkB.U {c : HC} {L : GA} {A : TA} {G : Gv} {T : Tv} {x o : Nat} {B : IA} {tu un : Nat} {s : TjS} {ga : Nat} {gv : Nat → Int32} (h9 : RkB c L A G T x o B tu un s ga gv) : RuR c L G := h9.2.1
theorem RkB.Gn {c : HC} {L : GA} {A : TA} {G : Gv} {T : Tv} {x o : Nat} {B : IA} {tu un : Nat} {s : TjS} {ga : Nat} {gv : Nat → Int32} (h9 : RkB c L A G T x o B tu un s ga gv) : GnR c A ga gv := h9.2.2

theorem WK.kd {c : HC} (R : TrR c L A G T x) (Tr : InT c o B tu un) {f b : Nat} (h : WK A T tu un f b) : c.kd b = (40, 8) ∨ c.kd b = (40, 320) ∨ c.kd b = (42, 320) := by
  rcases h.2 with ⟨k, hk, rfl⟩ | rfl | rfl
  · exact .inl (R.nd k hk).vk
  · exact .inr (.inl Tr.k1)
  · exact .inr (.inr Tr.k2)

theorem WK.not {c : HC} (R : TrR c L A G T x) (Tr : InT c o B tu un) {b t n : Nat} (hb : c.kd b = (t, n)) (h : (t, n) ≠ (40, 8) ∧ (t, n) ≠ (40, 320) ∧ (t, n) ≠ (42, 320)) : ¬ WK A T tu un 0 b := by
  intro hh
  rcases hh.kd R Tr with e | e | e
  · exact h.1 (hb.symm.trans e)
  · exact h.2.1 (hb.symm.trans e)
  · exact h.2.2 (hb.symm.trans e)

theorem WK.row {c : HC} (R : TrR c L A G T x) {b t : Nat} (hb : c.kd b = (t, 320)) (h1 : b ≠ tu) (h2 : b ≠ un) : ¬ WK A T tu un 0 b := by
  rintro ⟨_, ⟨k, hk, rfl⟩ | e | e⟩
  · have := (Prod.mk.inj (hb.symm.trans (R.nd k hk).vk)).2
    exact absurd this (by decide)
  · exact h1 e
  · exact h2 e

theorem RkB.keepW {Wr : Nat → Nat → Prop} {c c' : HC} (K : RkB c L A G T x o B tu un s ga gv) (F : Fr Wr c c') (hW : ∀ f a, Wr f a → WK A T tu un f a ∨ f = 110 ∨ f = 111) : RkB c' L A G T x o B tu un s ga gv := by
  have R := K.I.K.R
  have Tr := K.I.Tr
  have nf : ∀ f a, f ≠ 0 ∧ f ≠ 110 ∧ f ≠ 111 → ¬ Wr f a := fun f a hf hh => by
    rcases hW f a hh with h | h | h
    · exact hf.1 h.1
    · exact hf.2.1 h
    · exact hf.2.2 h
  have n0 : ∀ {b}, ¬ WK A T tu un 0 b → ¬ Wr 0 b := fun {b} hb hh => by
    rcases hW 0 b hh with h | h | h
    · exact hb h
    · exact absurd h (by decide)
    · exact absurd h (by decide)
  have S' : GS c' L G := K.I.K.S.keep F ⟨fun a => ⟨nf _ _ (by decide), nf _ _ (by decide), nf _ _ (by decide), nf _ _ (by decide), nf _ _ (by decide), nf _ _ (by decide)⟩, fun q hq => nf _ _ (by decide),
    fun p hp => ⟨nf _ _ (by decide), nf _ _ (by decide), n0 (WK.not R Tr (K.I.K.S.pr p hp).sl.dk ⟨by simp, by simp, by simp⟩), n0 (WK.not R Tr (K.I.K.S.pr p hp).k2 ⟨by simp, by simp, by simp⟩)⟩⟩
  have R' : TrR c' L A G T x := R.keep F (fun f a hf => nf f a (by omega)) (nf _ _ (by decide)) (nf _ _ (by decide)) (n0 (WK.not R Tr R.rl.dk ⟨by simp, by simp, by simp⟩)) (fun k hk => n0 (WK.not R Tr (R.nd k hk).ls.dk ⟨by simp, by simp, by simp⟩))
  have ol := K.I.K.J.l
  have Y := K.I.K.Y
  have Y' : IxR c' o B := Y.keep ol F (fun f hf => nf _ _ (by omega))
  have a1 := F.ai _ Y.l1 (n0 (WK.row R Y.k1 Tr.d1 (fun e => by have := Y.k1; rw [e, Tr.k2] at this; exact absurd (Prod.mk.inj this).1 (by decide))))
  have a2 := F.ai _ Y.l2 (n0 (WK.row R Y.k2 (fun e => Tr.d4.1 e.symm) (fun e => by have := Y.k2; rw [e, Tr.k2] at this; exact absurd (Prod.mk.inj this).1 (by decide))))
  have a3 := F.ai _ Y.l3 (n0 (WK.row R Y.k3 (fun e => Tr.d4.2.1 e.symm) (fun e => by have := Y.k3; rw [e, Tr.k2] at this; exact absurd (Prod.mk.inj this).1 (by decide))))
  have a4 := F.ai _ Y.l4 (n0 (WK.row R Y.k4 Tr.d3 (fun e => by have := Y.k4; rw [e, Tr.k2] at this; exact absurd (Prod.mk.inj this).1 (by decide))))
  have a5 := F.ai _ Y.l5 (n0 (WK.row R Y.k5 (fun e => by have := Y.k5; rw [e, Tr.k1] at this; exact absurd (Prod.mk.inj this).1 (by decide)) (fun e => Tr.d4.2.2 e.symm)))
  have a6 := F.ai _ Y.l6 (n0 (WK.row R Y.k6 (fun e => by have := Y.k6; rw [e, Tr.k1] at this; exact absurd (Prod.mk.inj this).1 (by decide)) Tr.d2))
  have TR := K.I.R
  have fi := fun f (hf : f ≠ 0 ∧ f ≠ 110 ∧ f ≠ 111) => F.fi f o ol (nf f o hf)
  have fr := fun f (hf : f ≠ 0 ∧ f ≠ 110 ∧ f ≠ 111) => F.fr f o ol (nf f o hf)
  refine ⟨⟨⟨S', R', ⟨by rw [F.kd _ ol]; exact K.I.K.J.k, Nat.lt_of_lt_of_le ol F.sz, by rw [fr _ (by decide)]; exact K.I.K.J.mx⟩, Y'⟩,
    ⟨by rw [fr _ (by decide)]; exact Tr.f1, by rw [fr _ (by decide)]; exact Tr.f2, by rw [F.kd _ Tr.l1]; exact Tr.k1, by rw [F.kd _ Tr.l2]; exact Tr.k2, Nat.lt_of_lt_of_le Tr.l1 F.sz, Nat.lt_of_lt_of_le Tr.l2 F.sz, Tr.d1, Tr.d2, Tr.d3, Tr.d4⟩,
    ⟨fun i hi => by rw [a2]; exact TR.od i hi, fun i hi => by rw [a3]; exact TR.lw i hi, fun k hk => by rw [a4]; exact TR.pi k hk, fun i hi => by rw [a5]; exact TR.ip i hi, fun i hi => by rw [a1]; exact TR.kn i hi, fun k hk => by rw [a6]; exact TR.ik k hk,
     by rw [fi _ (by decide)]; exact TR.n1, by rw [fi _ (by decide)]; exact TR.n2, by rw [fi _ (by decide)]; exact TR.n3⟩, by rw [fi _ (by decide)]; exact K.I.m, K.I.F⟩, ?_, ?_⟩
  · have U := K.U
    have pl := fun p hp => (K.I.K.S.pr p hp).l
    refine ⟨fun p hp => ?_, fun p u hp hu he => ?_, fun p u e hp hu he => ?_, fun p hp => ?_, fun p u hp hu => ?_⟩
    · obtain ⟨u1, u2, u3⟩ := U.f p hp
      exact ⟨by rw [F.fr _ _ (pl p hp) (nf _ _ (by decide))]; exact u1, by rw [F.kd _ u3]; exact u2, Nat.lt_of_lt_of_le u3 F.sz⟩
    · obtain ⟨u1, u2, u3⟩ := U.f p hp
      rw [F.ar _ u3 (n0 (WK.not R Tr u2 ⟨by simp, by simp, by simp⟩))]; exact U.n p u hp hu he
    · obtain ⟨u1, u2, u3⟩ := U.f p hp
      obtain ⟨a, ha, hP⟩ := U.s p u e hp hu he
      exact ⟨a, by rw [F.ar _ u3 (n0 (WK.not R Tr u2 ⟨by simp, by simp, by simp⟩))]; exact ha, PtR.keep F (fun f a hf => nf f a (by omega)) hP⟩
    · obtain ⟨u1, u2, u3⟩ := U.w p hp
      exact ⟨by rw [F.fr _ _ (pl p hp) (nf _ _ (by decide))]; exact u1, by rw [F.kd _ u3]; exact u2, Nat.lt_of_lt_of_le u3 F.sz⟩
    · obtain ⟨u1, u2, u3⟩ := U.w p hp
      rw [F.ai _ u3 (n0 (WK.not R Tr u2 ⟨by simp, by simp, by simp⟩))]; exact U.v p u hp hu
  · exact ⟨by rw [F.fr _ _ R.tl (nf _ _ (by decide))]; exact K.Gn.f, by rw [F.kd _ K.Gn.l]; exact K.Gn.k, Nat.lt_of_lt_of_le K.Gn.l F.sz, fun j hj => by rw [F.ai _ K.Gn.l (n0 (WK.not R Tr K.Gn.k ⟨by simp, by simp, by simp⟩))]; exact K.Gn.v j hj⟩

theorem RkB.keep {c c' : HC} (K : RkB c L A G T x o B tu un s ga gv) (F : Fr (WK A T tu un) c c') : RkB c' L A G T x o B tu un s ga gv := K.keepW F (fun _ _ hh => .inl hh)

/-- the members of a knot, below m. -/
def mem (s : TjS) (k m : Nat) : List Nat := (List.range m).filter (fun j => decide (s.kn j = some k))
theorem mem_mem {k m j : Nat} : j ∈ mem s k m ↔ j < m ∧ s.kn j = some k := by simp [mem, List.mem_filter]
theorem mem_succ (s : TjS) (k m : Nat) : mem s k (m + 1) = mem s k m ++ (if s.kn m = some k then [m] else []) := by
  unfold mem
  rw [List.range_succ, List.filter_append]
  congr 1
  by_cases h : s.kn m = some k <;> simp [h]

theorem KnF.cl (W : G.WF) (X : T.WF G) (F : KnF (T.is G) (T.ed G) s) {i k : Nat} (hi : T.is G i) (hk : s.kn i = some k) : cls (T.ed G) (8 * T.n) i = mem s k (8 * T.n) := by
  unfold cls mem
  congr 1
  funext j
  have : (Rch (T.ed G) i j ∧ Rch (T.ed G) j i) ↔ s.kn j = some k := by
    by_cases hj : T.is G j
    · rw [← hk, F.d j i hj hi]
      exact ⟨fun h => ⟨h.2, h.1⟩, fun h => ⟨h.2, h.1⟩⟩
    · rw [F.b j hj]
      constructor
      · intro h
        exact absurd (Rch.ind (P := fun z => T.is G z → T.is G j) id (fun _ _ e _ ih _ => ih (X.edV W e).2) h.1 hi) hj
      · intro h; exact absurd h (by simp)
  simp [this]

theorem px_firstOf {h : AH} (K : InR h.c L A G T x o B tu un s) (X : T.WF G) {k : Nat} (hk : k < s.kts) {Q : Int32 → AH → Prop} (hQ : ∀ i, T.is G i → s.kn i = some k → (∀ j, j < i → s.kn j ≠ some k) → Q (I i) h) : wp_X17_firstOf o (I k) h Q := by
  have h40 := X.n40
  have h320 := K.F.n
  obtain ⟨i1, hi1, e1⟩ := K.F.e k hk
  have hlt1 := X.isLt hi1
  unfold wp_X17_firstOf
  refine xlp_cnt (8 * T.n) (fun j q U => q = I j ∧ U = h ∧ ∀ j', j' < j → s.kn j' ≠ some k) ⟨rfl, rfl, fun j' hj' => absurd hj' (Nat.not_lt_zero _)⟩ ?_
  rintro j _ U K' hj ⟨rfl, rfl, hf⟩ hK
  have hji : j ≤ i1 := Nat.le_of_not_lt (fun hh => hf i1 hh e1)
  have f1 : U.fr 1701 o = some B.kn := K.K.Y.f1
  refine ⟨nn_of rfl K.K.J.k, ?_⟩
  rw [f1, adr_some]
  refine ⟨ix_of rfl K.K.Y.k1 (by omega) (by decide), ?_⟩
  rw [I_ni (by omega), show U.ai B.kn j = oI (s.kn j) from K.R.kn j (by omega)]
  by_cases e : s.kn j = some k
  · rw [e]
    refine brT rfl (hQ j ?_ e hf)
    exact Classical.byContradiction fun hn => by rw [K.F.b j hn] at e; exact absurd e (by simp)
  · refine brF ?_ ?_
    · intro hh
      cases hkn : s.kn j with
      | none => rw [hkn] at hh; exact I_neg1_ne (by omega) hh.symm
      | some k' =>
        rw [hkn] at hh
        have hj' : T.is G j := Classical.byContradiction fun hn => by rw [K.F.b j hn] at hkn; exact absurd hkn (by simp)
        obtain ⟨k2, hk2, e2⟩ := K.F.a j hj'
        rw [hkn] at e2
        have := Option.some.inj e2
        have h3 : I k' = I k := hh
        have := (I_eq (by omega) (by omega)).1 h3
        rw [this] at hkn
        exact e hkn
    · (try simp (disch := omega) only [L_le, le_L, L_lt, lt_L, eq_L, L_eq, I_le, I_lt, I_eq, I_ni, add_L, L_add, I_add, mul_L, L_mul, I_mul, sub_L, L_sub, I_sub, div_L, rem_L])
      refine hK _ _ (by omega) ⟨rfl, rfl, fun j' hj' => ?_⟩
      by_cases e3 : j' = j
      · rw [e3]; exact e
      · exact hf j' (by omega)
end
section
variable {G : Gv} {T : Tv} {L : GA} {A : TA} {x o : Nat} {B : IA} {tu un ga : Nat} {s : TjS} {gv : Nat → Int32}

theorem runT_end {F : Nat → Vl → Int32} {Lm : List Nat} {f n : Nat} {w : Vl} {b : Bool} (h : b = false ∨ f = 0) : runT F Lm f n (w, b) = (w, n, b) := by
  cases f with
  | zero => rfl
  | succ f =>
    rcases h with rfl | h
    · rfl
    · exact absurd h (by omega)

/-- what all steps of a reckoning keep. -/
def RkS (c0 : HC) (h0 h : AH) (A : TA) (T : Tv) (tu un : Nat) (v : Vl) : Prop :=
  (Fr (WK A T tu un) c0 h.c) ∧
  (VaR h.c A T v) ∧
  (h.ai tu = h0.ai tu) ∧
  (h.ai un = h0.ai un) ∧
  (h.rc = h0.rc) ∧
  (h.rs = h0.rs)
theorem RkS.F {c0 : HC} {h0 h : AH} {A : TA} {T : Tv} {tu un : Nat} {v : Vl} (h9 : RkS c0 h0 h A T tu un v) : Fr (WK A T tu un) c0 h.c := h9.1
theorem RkS.V {c0 : HC} {h0 h : AH} {A : TA} {T : Tv} {tu un : Nat} {v : Vl} (h9 : RkS c0 h0 h A T tu un v) : VaR h.c A T v := h9.2.1
theorem RkS.ti {c0 : HC} {h0 h : AH} {A : TA} {T : Tv} {tu un : Nat} {v : Vl} (h9 : RkS c0 h0 h A T tu un v) : h.ai tu = h0.ai tu := h9.2.2.1
theorem RkS.ui {c0 : HC} {h0 h : AH} {A : TA} {T : Tv} {tu un : Nat} {v : Vl} (h9 : RkS c0 h0 h A T tu un v) : h.ai un = h0.ai un := h9.2.2.2.1
theorem RkS.rc {c0 : HC} {h0 h : AH} {A : TA} {T : Tv} {tu un : Nat} {v : Vl} (h9 : RkS c0 h0 h A T tu un v) : h.rc = h0.rc := h9.2.2.2.2.1
theorem RkS.rs {c0 : HC} {h0 h : AH} {A : TA} {T : Tv} {tu un : Nat} {v : Vl} (h9 : RkS c0 h0 h A T tu un v) : h.rs = h0.rs := h9.2.2.2.2.2

theorem va_ne {c : HC} (R : TrR c L A G T x) (Tr : InT c o B tu un) {k : Nat} (hk : k < T.n) : A.va k ≠ tu ∧ A.va k ≠ un := by
  refine ⟨fun e => ?_, fun e => ?_⟩
  · have := (R.nd k hk).vk
    rw [e, Tr.k1] at this
    exact absurd (Prod.mk.inj this).2 (by decide)
  · have := (R.nd k hk).vk
    rw [e, Tr.k2] at this
    exact absurd (Prod.mk.inj this).2 (by decide)

theorem RkS.lay {c0 : HC} {h0 h : AH} {v : Vl} (Z : RkS c0 h0 h A T tu un v) (R : TrR h.c L A G T x) (Tr : InT h.c o B tu un) (D : VaD A T) {i : Nat} (hi : i / 8 < T.n) (y : Int32) : RkS c0 h0 (h.sai (A.va (i / 8)) (i % 8) y) A T tu un (updN v i y) := by
  obtain ⟨n1, n2⟩ := va_ne R Tr hi
  refine ⟨Z.F.sai _ _ (fun _ => ⟨rfl, .inl ⟨_, hi, rfl⟩⟩), Z.V.lay D hi y, ?_, ?_, Z.rc, Z.rs⟩
  · rw [sai_ai, if_neg (fun e => n1 e.symm)]; exact Z.ti
  · rw [sai_ai, if_neg (fun e => n2 e.symm)]; exact Z.ui

theorem oI_eq {o : Option Nat} {k : Nat} (h : ∀ j, o = some j → j < 1000) (hk : k < 1000) : oI o = I k ↔ o = some k := by
  constructor
  · intro e
    cases o with
    | none => exact absurd e.symm (I_neg1_ne (by omega))
    | some j =>
      have := h j rfl
      rw [(I_eq (by omega) (by omega)).1 e]
  · rintro rfl; rfl

theorem KnF.lt (F : KnF (T.is G) (T.ed G) s) {i k : Nat} (h : s.kn i = some k) : T.is G i ∧ k < s.kts := by
  have hi : T.is G i := Classical.byContradiction fun hn => by rw [F.b i hn] at h; exact absurd h (by simp)
  obtain ⟨k', h1, h2⟩ := F.a i hi
  rw [h] at h2
  rw [Option.some.inj h2]
  exact ⟨hi, h1⟩

/-- a turn over a knot. -/
theorem px_turn (W : G.WF) (X : T.WF G) (RL : G.RL) (D : VaD A T) {c0 : HC} (K0 : RkB c0 L A G T x o B tu un s ga gv) {h0 h : AH} {v : Vl} (Z : RkS c0 h0 h A T tu un v) {k : Nat} (hk : k < s.kts) {P : Int32 → AH → Prop}
    (hP : ∀ h', RkS c0 h0 h' A T tu un (turnT (T.mk G gv) (mem s k (8 * T.n)) v).1 → P (if (turnT (T.mk G gv) (mem s k (8 * T.n)) v).2 then 1 else 0) h') :
    xlp (σ := Int32 × Int32) (fun s14 T15 k14 =>
  nn T15 (some o) 17 ∧
  (((T15.fi 1700 o) ≤ s14.2 →
  P s14.1 T15) ∧ (¬ (T15.fi 1700 o) ≤ s14.2 →
  ix T15 (T15.fr 1701 o) 40 s14.2 ∧
  (((T15.ai (adr (T15.fr 1701 o)) (ni s14.2)) = (I k) →
  wp_X17_told o (s14.2) (T15.srm 0 0) fun r19 h20 => ∀ h21, h21 = h20.srm T15.rc T15.rs →
  nn h21 (some o) 17 ∧
  wp_X17_valueOf o (s14.2) (h21.srm 0 0) fun r23 h24 => ∀ h25, h25 = h24.srm h21.rc h21.rs →
  ∀ m26 : Int32, m26 = (if r19 = r23 then 0 else 1) →
  nn h25 (some o) 17 ∧
  wp_X17_lays o (s14.2) r19 (h25.srm 0 0) fun h30 => ∀ h31, h31 = h30.srm h25.rc h25.rs →
  k14 ((s14.1 ||| m26), (s14.2 + 1)) h31) ∧ (¬ (T15.ai (adr (T15.fr 1701 o)) (ni s14.2)) = (I k) →
  k14 (s14.1, (s14.2 + 1)) T15))))) (0, 0) h := by
  have h40 := X.n40
  have h320 := K0.I.F.n
  refine xlp_cnt (8 * T.n) (fun j q U => q = (if ((mem s k j).foldl (stepT (T.mk G gv)) (v, false)).2 then 1 else 0, I j) ∧ RkS c0 h0 U A T tu un ((mem s k j).foldl (stepT (T.mk G gv)) (v, false)).1) ⟨rfl, Z⟩ ?_
  rintro j _ U K hj ⟨rfl, ZU⟩ hK
  have KU := K0.keep ZU.F
  have mU : U.fi 1700 o = I (8 * T.n) := KU.I.m
  refine ⟨nn_of rfl KU.I.K.J.k, ?_⟩
  rw [mU]
  by_cases e : j = 8 * T.n
  · subst e
    exact brT (by (first | omega | ((try simp (disch := omega) only [L_le, le_L, L_lt, lt_L, eq_L, L_eq, I_le, I_lt, I_eq, I_ni, add_L, L_add, I_add, mul_L, L_mul, I_mul, sub_L, L_sub, I_sub, div_L, rem_L]); done) | ((try simp (disch := omega) only [L_le, le_L, L_lt, lt_L, eq_L, L_eq, I_le, I_lt, I_eq, I_ni, add_L, L_add, I_add, mul_L, L_mul, I_mul, sub_L, L_sub, I_sub, div_L, rem_L]); omega))) (hP U ZU)
  have hj' : j < 8 * T.n := by omega
  have f1 : U.fr 1701 o = some B.kn := KU.I.K.Y.f1
  refine brF (by (first | omega | ((try simp (disch := omega) only [L_le, le_L, L_lt, lt_L, eq_L, L_eq, I_le, I_lt, I_eq, I_ni, add_L, L_add, I_add, mul_L, L_mul, I_mul, sub_L, L_sub, I_sub, div_L, rem_L]); done) | ((try simp (disch := omega) only [L_le, le_L, L_lt, lt_L, eq_L, L_eq, I_le, I_lt, I_eq, I_ni, add_L, L_add, I_add, mul_L, L_mul, I_mul, sub_L, L_sub, I_sub, div_L, rem_L]); omega))) ?_
  rw [f1, adr_some]
  refine ⟨ix_of rfl KU.I.K.Y.k1 (by omega) (by decide), ?_⟩
  rw [I_ni (by omega), show U.ai B.kn j = oI (s.kn j) from KU.I.R.kn j hj']
  have hko : oI (s.kn j) = I k ↔ s.kn j = some k := oI_eq (fun j' e' => by have := (K0.I.F.lt e').2; omega) (by omega)
  by_cases e1 : s.kn j = some k
  · have hji := (K0.I.F.lt e1).1
    have hm : mem s k (j + 1) = mem s k j ++ [j] := by rw [mem_succ, if_pos e1]
    refine brT (hko.2 e1) ?_
    refine px_told (h := U.srm 0 0) W X KU.I.K.S KU.I.K.R KU.U KU.I.K.J KU.Gn ZU.V RL hji (pu ⟨nn_of rfl KU.I.K.J.k, ?_⟩)
    refine px_valueOf (h := U.srm 0 0) KU.I.K.R X KU.I.K.J ZU.V hj' (pu ?_)
    intro m hm26
    refine ⟨nn_of rfl KU.I.K.J.k, ?_⟩
    refine px_lays (h := U.srm 0 0) KU.I.K.R X KU.I.K.J hj' ?_
    intro h31 e31
    (try simp (disch := omega) only [L_le, le_L, L_lt, lt_L, eq_L, L_eq, I_le, I_lt, I_eq, I_ni, add_L, L_add, I_add, mul_L, L_mul, I_mul, sub_L, L_sub, I_sub, div_L, rem_L])
    have eU : h31 = U.sai (A.va (j / 8)) (j % 8) (T.mk G gv j ((mem s k j).foldl (stepT (T.mk G gv)) (v, false)).1) := e31
    refine hK _ _ hj' ⟨?_, ?_⟩
    · rw [hm, List.foldl_append]
      show (_, I (j + 1)) = (_, I (j + 1))
      congr 1
      show _ = if (((mem s k j).foldl (stepT (T.mk G gv)) (v, false)).2 || decide (T.mk G gv j ((mem s k j).foldl (stepT (T.mk G gv)) (v, false)).1 ≠ ((mem s k j).foldl (stepT (T.mk G gv)) (v, false)).1 j)) = true then 1 else 0
      rw [hm26]
      cases ((mem s k j).foldl (stepT (T.mk G gv)) (v, false)).2 with
      | true =>
        rw [if_pos rfl]
        split <;> simp
      | false =>
        rw [if_neg (by simp)]
        split
        · next he => simp [he]
        · next he => simp [he]
    · rw [hm, List.foldl_append, eU]
      exact ZU.lay KU.I.K.R KU.I.Tr D hji.1 _
  · have hm : mem s k (j + 1) = mem s k j := by rw [mem_succ, if_neg e1, List.append_nil]
    refine brF (fun hh => e1 (hko.1 hh)) ?_
    (try simp (disch := omega) only [L_le, le_L, L_lt, lt_L, eq_L, L_eq, I_le, I_lt, I_eq, I_ni, add_L, L_add, I_add, mul_L, L_mul, I_mul, sub_L, L_sub, I_sub, div_L, rem_L])
    refine hK _ _ hj' ?_
    rw [hm]
    exact ⟨rfl, ZU⟩

theorem px_reckons (W : G.WF) (X : T.WF G) (RL : G.RL) (D : VaD A T) {c0 : HC} (K0 : RkB c0 L A G T x o B tu un s ga gv) {h : AH} (F : Fr (WK A T tu un) c0 h.c) {v : Vl} (V : VaR h.c A T v) {k : Nat} (hk : k < s.kts) {Q : AH → Prop}
    (h1 : s.kt k = false → ∀ i, T.is G i → s.kn i = some k → ∀ h', RkS c0 h h' A T tu un (updN v i (T.mk G gv i v)) → Q h')
    (h2 : s.kt k = true → ∀ h', Fr (WK A T tu un) c0 h'.c → VaR h'.c A T (knotT (T.mk G gv) (mem s k (8 * T.n)) v).1 → h'.ai tu = updN (h.ai tu) k (I (knotT (T.mk G gv) (mem s k (8 * T.n)) v).2.1) →
      h'.ai un = updN (h.ai un) k (if (knotT (T.mk G gv) (mem s k (8 * T.n)) v).2.2 then 1 else 0) → h'.rc = h.rc → h'.rs = h.rs → Q h') : wp_X17_reckons o (I k) h Q := by
  have h40 := X.n40
  have h320 := K0.I.F.n
  have Kh := K0.keep F
  have Z0 : RkS c0 h h A T tu un v := ⟨F, V, rfl, rfl, rfl, rfl⟩
  have f6 : h.fr 1706 o = some B.ik := Kh.I.K.Y.f6
  unfold wp_X17_reckons
  refine ⟨nn_of rfl Kh.I.K.J.k, ?_⟩
  rw [f6, adr_some]
  refine ⟨ix_of rfl Kh.I.K.Y.k6 (by omega) (by decide), ?_⟩
  rw [I_ni (by omega), show h.ai B.ik k = (if s.kt k then 1 else 0) from Kh.I.R.ik k hk]
  cases hkt : s.kt k with
  | false =>
    refine brT rfl ?_
    refine px_firstOf (h := h.srm 0 0) Kh.I X hk ?_
    intro i hi e hf
    have hlt := X.isLt hi
    refine pu ⟨nn_of rfl Kh.I.K.J.k, ?_⟩
    refine px_told (h := h.srm 0 0) W X Kh.I.K.S Kh.I.K.R Kh.U Kh.I.K.J Kh.Gn V RL hi (pu ⟨nn_of rfl Kh.I.K.J.k, ?_⟩)
    refine px_lays (h := h.srm 0 0) Kh.I.K.R X Kh.I.K.J hlt ?_
    intro h' e'
    have eU : h' = h.sai (A.va (i / 8)) (i % 8) (T.mk G gv i v) := e'
    refine h1 hkt i hi e h' ?_
    rw [eU]
    exact Z0.lay Kh.I.K.R Kh.I.Tr D hi.1 _
  | true =>
    refine brF (by decide) ?_
    refine xlp_cnt (8 * T.n) (fun j q U => q = I j ∧ RkS c0 h U A T tu un (zeroT (mem s k j) v)) ⟨rfl, Z0⟩ ?_
    rintro j _ U K hj ⟨rfl, ZU⟩ hK
    have KU := K0.keep ZU.F
    have mU : U.fi 1700 o = I (8 * T.n) := KU.I.m
    refine ⟨nn_of rfl KU.I.K.J.k, ?_⟩
    rw [mU]
    by_cases e : j = 8 * T.n
    · subst e
      refine brT (by (first | omega | ((try simp (disch := omega) only [L_le, le_L, L_lt, lt_L, eq_L, L_eq, I_le, I_lt, I_eq, I_ni, add_L, L_add, I_add, mul_L, L_mul, I_mul, sub_L, L_sub, I_sub, div_L, rem_L]); done) | ((try simp (disch := omega) only [L_le, le_L, L_lt, lt_L, eq_L, L_eq, I_le, I_lt, I_eq, I_ni, add_L, L_add, I_add, mul_L, L_mul, I_mul, sub_L, L_sub, I_sub, div_L, rem_L]); omega))) ?_
      -- turns
      refine xlp_cnt 64 (fun n q U2 => ∃ w b, q = (if b then 1 else 0, I n) ∧ RkS c0 h U2 A T tu un w ∧ runT (T.mk G gv) (mem s k (8 * T.n)) (64 - n) n (w, b) = knotT (T.mk G gv) (mem s k (8 * T.n)) v) ⟨_, true, rfl, ZU, rfl⟩ ?_
      rintro n _ U2 K2 hn ⟨w, b, rfl, Z2, hr⟩ hK2
      have KU2 := K0.keep Z2.F
      have hnb : n < 2147483648 := by omega
      by_cases hend : b = false ∨ 64 ≤ n
      · have hz : (if b = true then (1 : Int32) else 0) = 0 ∨ (64 : Int32) ≤ I n := by
          rcases hend with hb | hn64
          · exact .inl (by rw [hb]; rfl)
          · exact .inr ((L_le 64 (by decide) hnb).2 hn64)
        rw [runT_end (by rcases hend with hb | hn64
                         · exact .inl hb
                         · exact .inr (by omega))] at hr
        refine brT hz ⟨nn_of rfl KU2.I.K.J.k, ?_⟩
        have g1 : U2.fr 1710 o = some tu := KU2.I.Tr.f1
        rw [g1, adr_some]
        refine ⟨ix_of rfl KU2.I.Tr.k1 (by omega) (by decide), ?_⟩
        intro h12 e12
        have ne : tu ≠ un := fun e => by
          have := KU2.I.Tr.k1
          rw [e, KU2.I.Tr.k2] at this
          exact absurd (Prod.mk.inj this).1 (by decide)
        have F12 : Fr (WK A T tu un) c0 h12.c := by rw [e12]; exact Z2.F.sai _ _ (fun _ => ⟨rfl, .inr (.inl rfl)⟩)
        have K12 := K0.keep F12
        have g2 : h12.fr 1711 o = some un := K12.I.Tr.f2
        rw [g2, adr_some]
        refine ⟨ix_of rfl K12.I.Tr.k2 (by omega) (by decide), ?_⟩
        intro h13 e13
        have va : ∀ q, q < T.n → A.va q ≠ tu ∧ A.va q ≠ un := fun q hq => va_ne Kh.I.K.R Kh.I.Tr hq
        have hnar : vp_nar .boolean (if b = true then 1 else 0) = (if b = true then 1 else 0) := by cases b <;> rfl
        have hk1 : (knotT (T.mk G gv) (mem s k (8 * T.n)) v).1 = w := by rw [← hr]
        have hk2 : (knotT (T.mk G gv) (mem s k (8 * T.n)) v).2.1 = n := by rw [← hr]
        have hk3 : (knotT (T.mk G gv) (mem s k (8 * T.n)) v).2.2 = b := by rw [← hr]
        refine h2 hkt h13 ?_ ?_ ?_ ?_ ?_ ?_
        · rw [e13]; exact F12.sai _ _ (fun _ => ⟨rfl, .inr (.inr rfl)⟩)
        · rw [hk1]
          intro q a hq ha
          show h13.ai (A.va q) a = _
          rw [e13, sai_ai, if_neg (va q hq).2, e12, sai_ai, if_neg (va q hq).1]
          exact Z2.V q a hq ha
        · rw [hk2, e13, sai_ai, if_neg ne, e12, sai_ai, if_pos rfl, Z2.ti]
        · rw [hk3, e13, sai_ai, if_pos rfl, e12, sai_ai, if_neg (fun e => ne e.symm), Z2.ui]
          show updN (h.ai un) k (vp_nar .boolean (if b = true then 1 else 0)) = _
          rw [hnar]
        · rw [e13, e12]; exact Z2.rc
        · rw [e13, e12]; exact Z2.rs
      · have hb : b = true := by cases b; exact absurd (.inl rfl) hend; rfl
        have hn64 : n < 64 := by omega
        subst hb
        refine brF ?_ ?_
        · rintro (hh | hh)
          · exact absurd (show (1 : Int32) = 0 from hh) (by decide)
          · exact hend (.inr ((L_le 64 (by decide) hnb).1 hh))
        refine px_turn W X RL D K0 Z2 hk (P := fun r h' => K2 (r, I n + 1) h') ?_
        intro h' Z'
        (try simp (disch := omega) only [L_le, le_L, L_lt, lt_L, eq_L, L_eq, I_le, I_lt, I_eq, I_ni, add_L, L_add, I_add, mul_L, L_mul, I_mul, sub_L, L_sub, I_sub, div_L, rem_L])
        refine hK2 _ _ hn64 ⟨_, _, rfl, Z', ?_⟩
        rw [← hr, show 64 - n = (64 - (n + 1)) + 1 by omega]
        rfl
    have hj' : j < 8 * T.n := by omega
    have f1 : U.fr 1701 o = some B.kn := KU.I.K.Y.f1
    refine brF (by (first | omega | ((try simp (disch := omega) only [L_le, le_L, L_lt, lt_L, eq_L, L_eq, I_le, I_lt, I_eq, I_ni, add_L, L_add, I_add, mul_L, L_mul, I_mul, sub_L, L_sub, I_sub, div_L, rem_L]); done) | ((try simp (disch := omega) only [L_le, le_L, L_lt, lt_L, eq_L, L_eq, I_le, I_lt, I_eq, I_ni, add_L, L_add, I_add, mul_L, L_mul, I_mul, sub_L, L_sub, I_sub, div_L, rem_L]); omega))) ?_
    rw [f1, adr_some]
    refine ⟨ix_of rfl KU.I.K.Y.k1 (by omega) (by decide), ?_⟩
    rw [I_ni (by omega), show U.ai B.kn j = oI (s.kn j) from KU.I.R.kn j hj']
    have hko : oI (s.kn j) = I k ↔ s.kn j = some k := oI_eq (fun j' e' => by have := (K0.I.F.lt e').2; omega) (by omega)
    by_cases e1 : s.kn j = some k
    · have hji := (K0.I.F.lt e1).1
      refine brT (hko.2 e1) ?_
      refine px_lays (h := U.srm 0 0) KU.I.K.R X KU.I.K.J hj' ?_
      intro h31 e31
      have eU : h31 = U.sai (A.va (j / 8)) (j % 8) 0 := e31
      (try simp (disch := omega) only [L_le, le_L, L_lt, lt_L, eq_L, L_eq, I_le, I_lt, I_eq, I_ni, add_L, L_add, I_add, mul_L, L_mul, I_mul, sub_L, L_sub, I_sub, div_L, rem_L])
      refine hK _ _ hj' ⟨rfl, ?_⟩
      have : zeroT (mem s k (j + 1)) v = updN (zeroT (mem s k j) v) j 0 := by
        funext y
        unfold zeroT updN
        by_cases ey : y = j
        · subst ey
          rw [if_pos rfl, if_pos (mem_mem.2 ⟨by omega, e1⟩)]
        · rw [if_neg ey]
          have : y ∈ mem s k (j + 1) ↔ y ∈ mem s k j := by
            rw [mem_mem, mem_mem]
            exact ⟨fun h => ⟨by omega, h.2⟩, fun h => ⟨by omega, h.2⟩⟩
          simp only [this]
      rw [this, eU]
      exact ZU.lay KU.I.K.R KU.I.Tr D hji.1 0
    · refine brF (fun hh => e1 (hko.1 hh)) ?_
      (try simp (disch := omega) only [L_le, le_L, L_lt, lt_L, eq_L, L_eq, I_le, I_lt, I_eq, I_ni, add_L, L_add, I_add, mul_L, L_mul, I_mul, sub_L, L_sub, I_sub, div_L, rem_L])
      refine hK _ _ hj' ⟨rfl, ?_⟩
      rw [mem_succ, if_neg e1, List.append_nil]
      exact ZU
end
