/-! plain: cne -/
set_option maxRecDepth 100000
section
variable {G : Gv} {T : Tv} {L : GA} {A : TA} {x o : Nat} {B : IA} {tu un ga : Nat} {s : TjS} {gv : Nat → Int32}

/-- of knots below k. -/
def bel (s : TjS) (k : Nat) (P : Nat → Prop) (i : Nat) : Prop := ∃ j, s.kn i = some j ∧ j < k ∧ P i

theorem bel_succ {k i : Nat} {P : Nat → Prop} : bel s (k + 1) P i ↔ bel s k P i ∨ (s.kn i = some k ∧ P i) := by
  constructor
  · rintro ⟨j, h1, h2, h3⟩
    by_cases e : j = k
    · subst e; exact .inr ⟨h1, h3⟩
    · exact .inl ⟨j, h1, by omega, h3⟩
  · rintro (⟨j, h1, h2, h3⟩ | ⟨h1, h3⟩)
    · exact ⟨j, h1, by omega, h3⟩
    · exact ⟨k, h1, by omega, h3⟩
theorem bel_cn {k m : Nat} {P : Nat → Prop} : cnP (bel s (k + 1) P) m = cnP (bel s k P) m + cnP (fun i => s.kn i = some k ∧ P i) m := by
  rw [← cnP_or (P := bel s k P)]
  · exact cnP_congr (fun i _ => bel_succ)
  · rintro i _ ⟨j, h1, h2, _⟩ ⟨h3, _⟩
    rw [h1] at h3
    have := Option.some.inj h3
    omega

theorem cnP_none {P : Nat → Prop} {m : Nat} (h : ∀ i, i < m → ¬ P i) : cnP P m = 0 := by
  rw [cnP_congr (Q := fun _ => False) (fun i hi => ⟨fun hh => h i hi hh, fun hh => hh.elim⟩)]
  unfold cnP
  simp

theorem px_keeps {h : AH} {had k k0 ht hu : Nat} (Tr : InT h.c o B tu un) (hk : (h.kd o).1 = 17) (hhk : (h.kd had).1 = 17) (h1 : h.fr 1710 had = some ht) (h2 : h.fr 1711 had = some hu) (k1 : h.kd ht = (40, 320)) (k2 : h.kd hu = (42, 320)) (hkl : k < 320) (hkl0 : k0 < 320) (n1 : ht ≠ tu) (n2 : hu ≠ un) (n3 : tu ≠ un)
    (hb : bz (h.ai hu k0)) {Q : AH → Prop} (hQ : Q ((h.sai tu k (h.ai ht k0)).sai un k (h.ai hu k0))) : wp_X17_keeps o (I k) (some had) (I k0) h Q := by
  have f1 : h.fr 1710 o = some tu := Tr.f1
  have f2 : h.fr 1711 o = some un := Tr.f2
  refine ⟨nn_of rfl hk, nn_of rfl hhk, ?_⟩
  rw [adr_some, h1, f1, adr_some, adr_some, I_ni (by omega), I_ni (by omega)]
  refine ⟨ix_of rfl k1 hkl0 (by decide), ix_of rfl Tr.k1 hkl (by decide), ?_⟩
  intro h3 e3
  have g1 : h3.fr 1711 had = some hu := by rw [e3]; exact h2
  have g2 : h3.fr 1711 o = some un := by rw [e3]; exact f2
  have g3 : h3.ai hu = h.ai hu := by
    rw [e3, sai_ai, if_neg]
    intro e
    have := Tr.k1
    rw [← e] at this
    exact absurd (Prod.mk.inj (k2.symm.trans this)).1 (by decide)
  rw [g1, g2, adr_some, adr_some, g3]
  refine ⟨ix_of rfl (by rw [e3]; exact k2) hkl0 (by decide), ix_of rfl (by rw [e3]; exact Tr.k2) hkl (by decide), ?_⟩
  intro h4 e4
  have e5 : vp_nar .boolean (h.ai hu k0) = h.ai hu k0 := by rcases hb with hb | hb <;> rw [hb] <;> rfl
  rw [e5, e3] at e4
  rw [e4]
  exact hQ

/-- what there was. -/
def HadR (c : HC) (had hk ht hu : Nat) (tu un : Nat) : Prop :=
  ((c.kd had).1 = 17) ∧
  (had < c.sz) ∧
  (c.fr 1701 had = some hk) ∧
  (c.fr 1710 had = some ht) ∧
  (c.fr 1711 had = some hu) ∧
  (c.kd hk = (40, 320)) ∧
  (c.kd ht = (40, 320)) ∧
  (c.kd hu = (42, 320)) ∧
  (hk < c.sz) ∧
  (ht < c.sz) ∧
  (hu < c.sz) ∧
  (hk ≠ tu) ∧
  (ht ≠ tu) ∧
  (hu ≠ un)
theorem HadR.k {c : HC} {had hk ht hu : Nat} {tu un : Nat} (h9 : HadR c had hk ht hu tu un) : (c.kd had).1 = 17 := h9.1
theorem HadR.l {c : HC} {had hk ht hu : Nat} {tu un : Nat} (h9 : HadR c had hk ht hu tu un) : had < c.sz := h9.2.1
theorem HadR.f1 {c : HC} {had hk ht hu : Nat} {tu un : Nat} (h9 : HadR c had hk ht hu tu un) : c.fr 1701 had = some hk := h9.2.2.1
theorem HadR.f2 {c : HC} {had hk ht hu : Nat} {tu un : Nat} (h9 : HadR c had hk ht hu tu un) : c.fr 1710 had = some ht := h9.2.2.2.1
theorem HadR.f3 {c : HC} {had hk ht hu : Nat} {tu un : Nat} (h9 : HadR c had hk ht hu tu un) : c.fr 1711 had = some hu := h9.2.2.2.2.1
theorem HadR.k1 {c : HC} {had hk ht hu : Nat} {tu un : Nat} (h9 : HadR c had hk ht hu tu un) : c.kd hk = (40, 320) := h9.2.2.2.2.2.1
theorem HadR.k2 {c : HC} {had hk ht hu : Nat} {tu un : Nat} (h9 : HadR c had hk ht hu tu un) : c.kd ht = (40, 320) := h9.2.2.2.2.2.2.1
theorem HadR.k3 {c : HC} {had hk ht hu : Nat} {tu un : Nat} (h9 : HadR c had hk ht hu tu un) : c.kd hu = (42, 320) := h9.2.2.2.2.2.2.2.1
theorem HadR.l1 {c : HC} {had hk ht hu : Nat} {tu un : Nat} (h9 : HadR c had hk ht hu tu un) : hk < c.sz := h9.2.2.2.2.2.2.2.2.1
theorem HadR.l2 {c : HC} {had hk ht hu : Nat} {tu un : Nat} (h9 : HadR c had hk ht hu tu un) : ht < c.sz := h9.2.2.2.2.2.2.2.2.2.1
theorem HadR.l3 {c : HC} {had hk ht hu : Nat} {tu un : Nat} (h9 : HadR c had hk ht hu tu un) : hu < c.sz := h9.2.2.2.2.2.2.2.2.2.2.1
theorem HadR.n1 {c : HC} {had hk ht hu : Nat} {tu un : Nat} (h9 : HadR c had hk ht hu tu un) : hk ≠ tu := h9.2.2.2.2.2.2.2.2.2.2.2.1
theorem HadR.n2 {c : HC} {had hk ht hu : Nat} {tu un : Nat} (h9 : HadR c had hk ht hu tu un) : ht ≠ tu := h9.2.2.2.2.2.2.2.2.2.2.2.2.1
theorem HadR.n3 {c : HC} {had hk ht hu : Nat} {tu un : Nat} (h9 : HadR c had hk ht hu tu un) : hu ≠ un := h9.2.2.2.2.2.2.2.2.2.2.2.2.2

theorem tch_kn (W : G.WF) (X : T.WF G) (RL : G.RL) (F : KnF (T.is G) (T.ed G) s) {due nw : Nat → Prop} {old : Vl} {i k : Nat} (hk : s.kn i = some k) :
    (T.ist G gv W X RL).tch due nw old i ↔ ∃ i', s.kn i' = some k ∧ (due i' ∨ ∃ y, T.ed G i' y ∧ bel s k ((T.ist G gv W X RL).chg due nw old) y) := by
  have hi := (F.lt hk).1
  have hc : cls (T.ist G gv W X RL).E (T.ist G gv W X RL).M i = mem s k (8 * T.n) := F.cl W X hi hk
  constructor
  · rintro ⟨j, hj, hd⟩
    have hj' := hj
    rw [hc] at hj'
    refine ⟨j, (mem_mem.1 hj').2, ?_⟩
    rcases hd with hd | ⟨y, e, hy, hch⟩
    · exact .inl hd
    · obtain ⟨k', h1, h2⟩ := F.out W X RL hi hk hj e hy
      exact .inr ⟨y, e, k', h2, h1, hch⟩
  · rintro ⟨j, hj, hd⟩
    have hjc : j ∈ cls (T.ist G gv W X RL).E (T.ist G gv W X RL).M i := by rw [hc]; exact mem_mem.2 ⟨X.isLt (F.lt hj).1, hj⟩
    refine ⟨j, hjc, ?_⟩
    rcases hd with hd | ⟨y, e, k', h2, h1, hch⟩
    · exact .inl hd
    · refine .inr ⟨y, e, fun hh => ?_, hch⟩
      rw [hc] at hh
      have := (mem_mem.1 hh).2
      rw [h2] at this
      have := Option.some.inj this
      omega

theorem noWD {c : HC} (R : TrR c L A G T x) {b t : Nat} (hb : c.kd b = (t, 320)) (h1 : b ≠ tu) (h2 : b ≠ un) : ¬ WD A T tu un x 0 b := by
  rintro (hh | hh)
  · exact WK.row R hb h1 h2 hh
  · rcases hh.1 with e | e <;> exact absurd e (by decide)

/-- what is changed is marked and counted. -/
theorem px_marks (W : G.WF) (X : T.WF G) (RL : G.RL) {h : AH} (K0 : RkB h.c L A G T x o B tu un s ga gv) {old : Vl} {due nw : Nat → Prop} {wa : Nat} {σ : Nat → Nat}
    (hwa : h.kd wa = (40, 320)) (wal : wa < h.sz) (wan : wa ≠ tu) (wav : ∀ i, T.is G i → (nw i → h.ai wa i < 0) ∧ (¬ nw i → h.ai wa i = I (σ i) ∧ σ i < 320))
    (DD : DuD h.c A T tu un x h.sz (h.sz + 1)) {k : Nat} (hk : k < s.kts) (hto : ∀ y, s.kn y = some k → (T.ist G gv W X RL).tch due nw old y) {h' : AH} {w' : Vl} {t' u' : Nat → Int32} {r1 r2 : Nat}
    (Z : DuS h.c A T tu un x h.sz (h.sz + 1) h' w' (bel s k ((T.ist G gv W X RL).chg due nw old)) t' u' (cnP (bel s k ((T.ist G gv W X RL).tch due nw old)) (8 * T.n)) (cnP (bel s k ((T.ist G gv W X RL).chg due nw old)) (8 * T.n)) r1 r2)
    (N : KnV (T.ist G gv W X RL) s w' t' u' (k + 1)) (Bf : ∀ i', i' < 8 * T.n → s.kn i' = some k → h'.ai (h.sz + 1) i' = old i') {P : AH → Prop}
    (hP : ∀ h2, DuS h.c A T tu un x h.sz (h.sz + 1) h2 w' (bel s (k + 1) ((T.ist G gv W X RL).chg due nw old)) t' u' (cnP (bel s (k + 1) ((T.ist G gv W X RL).tch due nw old)) (8 * T.n)) (cnP (bel s (k + 1) ((T.ist G gv W X RL).chg due nw old)) (8 * T.n)) r1 r2 → P h2) :
    xlp (σ := Int32) (fun s33 T34 k33 =>
  nn T34 (some o) 17 ∧
  (((T34.fi 1700 o) ≤ s33 →
  P T34) ∧ (¬ (T34.fi 1700 o) ≤ s33 →
  ix T34 (T34.fr 1701 o) 40 s33 ∧
  (((T34.ai (adr (T34.fr 1701 o)) (ni s33)) = (I k) →
  ix T34 (some wa) 40 s33 ∧
  xjn (α := Int32) (fun J39 =>
  (((T34.ai (adr (some wa)) (ni s33)) < 0 →
  J39 1 T34) ∧ (¬ (T34.ai (adr (some wa)) (ni s33)) < 0 →
  wp_X17_valueOf o s33 (T34.srm 0 0) fun r41 h42 => ∀ h43, h43 = h42.srm T34.rc T34.rs →
  ix h43 (some (h.sz + 1)) 40 s33 ∧
  ∀ m44 : Int32, m44 = (if r41 = (h43.ai (h.sz + 1) (ni s33)) then 0 else 1) →
  J39 m44 h43))) (fun x47 T48 =>
  ix T48 (some h.sz) 42 s33 ∧
  ∀ h49, h49 = T48.sai h.sz (ni s33) (vp_nar .boolean x47) →
  nn h49 (some o) 17 ∧
  nn h49 (h49.fr 1712 o) 1 ∧
  ∀ h52, h52 = h49.sfi 110 (adr (h49.fr 1712 o)) ((h49.fi 110 (adr (h49.fr 1712 o))) + 1) →
  nn h52 (h52.fr 1712 o) 1 ∧
  ix h52 (some h.sz) 42 s33 ∧
  wp_X0_one (h52.ai h.sz (ni s33)) (h52.srm 0 0) fun r54 h55 => ∀ h56, h56 = h55.srm h52.rc h52.rs →
  nn h56 (h52.fr 1712 o) 1 ∧
  ∀ h58, h58 = h56.sfi 111 (adr (h52.fr 1712 o)) ((h52.fi 111 (adr (h52.fr 1712 o))) + r54) →
  k33 (s33 + 1) h58)) ∧ (¬ (T34.ai (adr (T34.fr 1701 o)) (ni s33)) = (I k) →
  k33 (s33 + 1) T34))))) 0 h' := by
  have h40 := X.n40
  have F0 := K0.I.F
  have h320 := F0.n
  have R0 := K0.I.K.R
  have Tr0 := K0.I.Tr
  have hko : ∀ j, oI (s.kn j) = I k ↔ s.kn j = some k := fun j => oI_eq (fun j' e' => by have := (F0.lt e').2; omega) (by omega)
  refine xlp_cnt (8 * T.n) (fun i q U => q = I i ∧ DuS h.c A T tu un x h.sz (h.sz + 1) U w' (fun y => bel s k ((T.ist G gv W X RL).chg due nw old) y ∨ (y < i ∧ s.kn y = some k ∧ (T.ist G gv W X RL).chg due nw old y)) t' u' (cnP (bel s k ((T.ist G gv W X RL).tch due nw old)) (8 * T.n) + cnP (fun y => s.kn y = some k) i) (cnP (bel s k ((T.ist G gv W X RL).chg due nw old)) (8 * T.n) + cnP (fun y => s.kn y = some k ∧ (T.ist G gv W X RL).chg due nw old y) i) r1 r2 ∧ ∀ i', i' < 8 * T.n → s.kn i' = some k → U.ai (h.sz + 1) i' = old i')
    ⟨rfl, Z.congr (fun y _ => ⟨.inl, fun hh => hh.elim id (fun hh => absurd hh.1 (Nat.not_lt_zero _))⟩), Bf⟩ ?_
  rintro i _ U K hi ⟨rfl, ZU, BU⟩ hK
  have KU := K0.keepW ZU.F (fun _ _ => WD.w)
  have mU : U.fi 1700 o = I (8 * T.n) := KU.I.m
  refine ⟨nn_of rfl KU.I.K.J.k, ?_⟩
  rw [mU]
  by_cases ei : i = 8 * T.n
  · subst ei
    refine brT (by (first | omega | ((try simp (disch := omega) only [L_le, le_L, L_lt, lt_L, eq_L, L_eq, I_le, I_lt, I_eq, I_ni, add_L, L_add, I_add, mul_L, L_mul, I_mul, sub_L, L_sub, I_sub, div_L, rem_L]); done) | ((try simp (disch := omega) only [L_le, le_L, L_lt, lt_L, eq_L, L_eq, I_le, I_lt, I_eq, I_ni, add_L, L_add, I_add, mul_L, L_mul, I_mul, sub_L, L_sub, I_sub, div_L, rem_L]); omega))) (hP U ?_)
    have c1 : cnP (bel s (k + 1) ((T.ist G gv W X RL).tch due nw old)) (8 * T.n) = cnP (bel s k ((T.ist G gv W X RL).tch due nw old)) (8 * T.n) + cnP (fun y => s.kn y = some k) (8 * T.n) := by
      rw [bel_cn]
      congr 1
      exact cnP_congr (fun y _ => ⟨fun hh => hh.1, fun hh => ⟨hh, hto y hh⟩⟩)
    rw [c1, bel_cn]
    refine ZU.congr (fun y _ => ?_)
    rw [bel_succ]
    exact ⟨fun hh => hh.elim .inl (fun hh => .inr hh.2), fun hh => hh.elim .inl (fun hh => .inr ⟨X.isLt (F0.lt hh.1).1, hh⟩)⟩
  have hi' : i < 8 * T.n := by omega
  have f1 : U.fr 1701 o = some B.kn := KU.I.K.Y.f1
  refine brF (by (first | omega | ((try simp (disch := omega) only [L_le, le_L, L_lt, lt_L, eq_L, L_eq, I_le, I_lt, I_eq, I_ni, add_L, L_add, I_add, mul_L, L_mul, I_mul, sub_L, L_sub, I_sub, div_L, rem_L]); done) | ((try simp (disch := omega) only [L_le, le_L, L_lt, lt_L, eq_L, L_eq, I_le, I_lt, I_eq, I_ni, add_L, L_add, I_add, mul_L, L_mul, I_mul, sub_L, L_sub, I_sub, div_L, rem_L]); omega))) ?_
  rw [f1, adr_some]
  refine ⟨ix_of rfl KU.I.K.Y.k1 (by omega) (by decide), ?_⟩
  rw [I_ni (by omega), show U.ai B.kn i = oI (s.kn i) from KU.I.R.kn i hi']
  by_cases ek : s.kn i = some k
  · have hii := (F0.lt ek).1
    have waU : U.kd wa = (40, 320) := by rw [show U.kd wa = h.kd wa from ZU.F.kd wa wal]; exact hwa
    have waA : U.ai wa = h.ai wa := ZU.F.ai wa wal (noWD R0 hwa wan (fun e => by have := hwa; rw [e, show h.kd un = (42, 320) from Tr0.k2] at this; exact absurd (Prod.mk.inj this).1 (by decide)))
    have hci : (T.ist G gv W X RL).chg due nw old i ↔ (nw i ∨ (T.ist G gv W X RL).val i ≠ old i) := by
      rw [(T.ist G gv W X RL).chg_iff hii]
      exact ⟨fun hh => hh.2, fun hh => ⟨hto i ek, hh⟩⟩
    have hwi : w' i = (T.ist G gv W X RL).val i := N.a i k ek (Nat.lt_succ_self _)
    refine brT ((hko i).2 ek) ⟨ix_of rfl waU (by omega) (by decide), fun r U' => r = iP ((T.ist G gv W X RL).chg due nw old i) ∧ U' = U, ?_, ?_⟩
    · rw [adr_some, waA]
      by_cases hn : nw i
      · exact brT ((wav i hii).1 hn) ⟨(iP_pos (hci.2 (.inl hn))).symm, rfl⟩
      · obtain ⟨g4, g5⟩ := (wav i hii).2 hn
        rw [g4]
        refine brF (I_nonneg (by omega)) ?_
        refine px_valueOf (h := U.srm 0 0) KU.I.K.R X KU.I.K.J ZU.V hi' (pu ⟨ix_of rfl ZU.bk (by omega) (by decide), ?_⟩)
        intro m hm
        rw [BU i hi' ek, hwi] at hm
        refine ⟨?_, rfl⟩
        rw [hm]
        by_cases ev : (T.ist G gv W X RL).val i = old i
        · rw [if_pos ev, iP_neg (fun hh => (hci.1 hh).elim hn (fun h2 => h2 ev))]
        · rw [if_neg ev, iP_pos (hci.2 (.inr ev))]
    · intro r U9 hh9
      obtain ⟨rfl, hU9⟩ := hh9
      rw [hU9]
      clear hU9 U9
      refine ⟨ix_of rfl ZU.ck (by omega) (by decide), ?_⟩
      intro h49 e49
      rw [iP_nar] at e49
      have Z49 := ZU.sch DD i ((T.ist G gv W X RL).chg due nw old i)
      rw [← e49] at Z49
      have b49 : h49.ai (h.sz + 1) = U.ai (h.sz + 1) := by rw [e49, sai_ai, if_neg (by omega)]
      clear e49
      have K49 := K0.keepW Z49.F (fun _ _ => WD.w)
      have m49 : h49.fr 1712 o = some x := K49.I.K.J.mx
      refine ⟨nn_of rfl K49.I.K.J.k, ?_⟩
      rw [m49, adr_some, Z49.n1]
      refine ⟨nn_of rfl K49.I.K.R.xk, ?_⟩
      intro h52 e52
      rw [show I (cnP (bel s k ((T.ist G gv W X RL).tch due nw old)) (8 * T.n) + cnP (fun y => s.kn y = some k) i) + 1 = I (cnP (bel s k ((T.ist G gv W X RL).tch due nw old)) (8 * T.n) + cnP (fun y => s.kn y = some k) i + 1) from I_add _ 1] at e52
      have Z52 := Z49.s1 (cnP (bel s k ((T.ist G gv W X RL).tch due nw old)) (8 * T.n) + cnP (fun y => s.kn y = some k) i + 1)
      rw [← e52] at Z52
      have b52 : h52.ai (h.sz + 1) = U.ai (h.sz + 1) := by rw [e52]; exact b49
      clear e52
      have K52 := K0.keepW Z52.F (fun _ _ => WD.w)
      have m52 : h52.fr 1712 o = some x := K52.I.K.J.mx
      rw [m52, adr_some, Z52.n2, Z52.cv i (by omega)]
      refine ⟨nn_of rfl K52.I.K.R.xk, ix_of rfl Z52.ck (by omega) (by decide), ?_⟩
      intro m1 hm1
      refine pu ⟨nn_of rfl K52.I.K.R.xk, ?_⟩
      intro h58 e58
      rw [if_pos rfl] at hm1
      have hm2 : I (cnP (bel s k ((T.ist G gv W X RL).chg due nw old)) (8 * T.n) + cnP (fun y => s.kn y = some k ∧ (T.ist G gv W X RL).chg due nw old y) i) + m1 = I (cnP (bel s k ((T.ist G gv W X RL).chg due nw old)) (8 * T.n) + cnP (fun y => s.kn y = some k ∧ (T.ist G gv W X RL).chg due nw old y) (i + 1)) := by
        by_cases hc : (T.ist G gv W X RL).chg due nw old i
        · rw [iP_pos hc] at hm1
          rw [hm1, cnP_pos (P := fun y => s.kn y = some k ∧ (T.ist G gv W X RL).chg due nw old y) ⟨ek, hc⟩]
          exact I_add _ 1
        · rw [iP_neg hc] at hm1
          rw [hm1, cnP_neg (P := fun y => s.kn y = some k ∧ (T.ist G gv W X RL).chg due nw old y) (fun hh => hc hh.2)]
          exact I_add _ 0
      rw [hm2] at e58
      have Z58 := Z52.s2 (cnP (bel s k ((T.ist G gv W X RL).chg due nw old)) (8 * T.n) + cnP (fun y => s.kn y = some k ∧ (T.ist G gv W X RL).chg due nw old y) (i + 1))
      have e58' : h58 = h52.sfi 111 x (I (cnP (bel s k ((T.ist G gv W X RL).chg due nw old)) (8 * T.n) + cnP (fun y => s.kn y = some k ∧ (T.ist G gv W X RL).chg due nw old y) (i + 1))) := e58
      rw [← e58'] at Z58
      have b58 : h58.ai (h.sz + 1) = U.ai (h.sz + 1) := by rw [e58']; exact b52
      (try simp (disch := omega) only [L_le, le_L, L_lt, lt_L, eq_L, L_eq, I_le, I_lt, I_eq, I_ni, add_L, L_add, I_add, mul_L, L_mul, I_mul, sub_L, L_sub, I_sub, div_L, rem_L])
      refine hK _ _ hi' ⟨rfl, ?_, fun i' hi9 hk9 => by rw [b58]; exact BU i' hi9 hk9⟩
      rw [cnP_pos (P := fun y => s.kn y = some k) ek, ← Nat.add_assoc]
      refine Z58.congr (fun y _ => ?_)
      by_cases ey : y = i
      · subst ey
        rw [if_pos rfl]
        constructor
        · exact fun hh => .inr ⟨by omega, ek, hh⟩
        · rintro (⟨j, h1, h2, h3⟩ | hh)
          · exact h3
          · exact hh.2.2
      · rw [if_neg ey]
        exact ⟨fun hh => hh.elim .inl (fun hh => .inr ⟨by omega, hh.2⟩), fun hh => hh.elim .inl (fun hh => .inr ⟨by omega, hh.2⟩)⟩
  · refine brF (fun hh => ek ((hko i).1 hh)) ?_
    (try simp (disch := omega) only [L_le, le_L, L_lt, lt_L, eq_L, L_eq, I_le, I_lt, I_eq, I_ni, add_L, L_add, I_add, mul_L, L_mul, I_mul, sub_L, L_sub, I_sub, div_L, rem_L])
    refine hK _ _ hi' ⟨rfl, ?_, BU⟩
    rw [cnP_neg (P := fun y => s.kn y = some k) ek, cnP_neg (P := fun y => s.kn y = some k ∧ (T.ist G gv W X RL).chg due nw old y) (fun hh => ek hh.1)]
    refine ZU.congr (fun y _ => ⟨fun hh => hh.elim .inl (fun hh => .inr ⟨by omega, hh.2⟩), fun hh => hh.elim .inl (fun hh => .inr ⟨?_, hh.2⟩)⟩)
    have := hh.1
    by_cases ey : y = i
    · subst ey; exact absurd hh.2.1 ek
    · omega

theorem px_reckonsDue (W : G.WF) (X : T.WF G) (RL : G.RL) (D : VaD A T) {h : AH} (K0 : RkB h.c L A G T x o B tu un s ga gv) {old : Vl} (V : VaR h.c A T old) {due nw : Nat → Prop} {du wa : Nat} {σ : Nat → Nat}
    (hdu : h.kd du = (42, 320)) (dul : du < h.sz) (dun : du ≠ un) (duv : ∀ i, i < 8 * T.n → h.ai du i = iP (due i))
    (hwa : h.kd wa = (40, 320)) (wal : wa < h.sz) (wan : wa ≠ tu) (wav : ∀ i, T.is G i → (nw i → h.ai wa i < 0) ∧ (¬ nw i → h.ai wa i = I (σ i) ∧ σ i < 320))
    {had hkn ht hu : Nat} (HR : HadR h.c had hkn ht hu tu un) {otn : Nat → Nat} {ous : Nat → Bool}
    (hhk : ∀ i, T.is G i → Trc (T.ed G) i i → ¬ (T.ist G gv W X RL).tch due nw old i → ∃ k0, k0 < 320 ∧ h.ai hkn (σ i) = I k0 ∧ h.ai ht k0 = I (otn i) ∧ h.ai hu k0 = (if ous i then 1 else 0))
    (hnd : ∀ y, T.is G y → nw y → due y)
    (hst : ∀ i, (T.ist G gv W X RL).V i → (∀ j, j ∈ cls (T.ist G gv W X RL).E (T.ist G gv W X RL).M i → ¬ due j) → (∀ j y, j ∈ cls (T.ist G gv W X RL).E (T.ist G gv W X RL).M i → (T.ist G gv W X RL).E j y → y ∉ cls (T.ist G gv W X RL).E (T.ist G gv W X RL).M i → ¬ nw y ∧ (T.ist G gv W X RL).val y = old y) →
      (∀ j, j ∈ cls (T.ist G gv W X RL).E (T.ist G gv W X RL).M i → (T.ist G gv W X RL).val j = old j) ∧ (Trc (T.ist G gv W X RL).E i i → (T.ist G gv W X RL).tn i = otn i ∧ (T.ist G gv W X RL).us i = ous i))
    (hrc : 2 ≤ h.rc) (hrs : 640 ≤ h.rs) {Q : AH → Prop}
    (hQ : ∀ h' w, Fr (WD A T tu un x) h.c h'.c → VaR h'.c A T w → KnV (T.ist G gv W X RL) s w (h'.ai tu) (h'.ai un) s.kts → h'.fi 110 x = I (cnP (fun i => T.is G i ∧ (T.ist G gv W X RL).tch due nw old i) (8 * T.n)) →
      h'.fi 111 x = I (cnP (fun i => T.is G i ∧ (T.ist G gv W X RL).chg due nw old i) (8 * T.n)) → h'.rc = h.rc - 2 → h'.rs = h.rs - 640 → Q h') : wp_X17_reckonsDue o (some du) (some had) (some wa) h Q := by
  have h40 := X.n40
  have F0 := K0.I.F
  have h320 := F0.n
  have R0 := K0.I.K.R
  have Tr0 := K0.I.Tr
  have xl : x < h.sz := R0.xl
  have ol : o < h.sz := K0.I.K.J.l
  have tun : tu ≠ un := fun e => by
    have := Tr0.k1
    rw [e, Tr0.k2] at this
    exact absurd (Prod.mk.inj this).1 (by decide)
  unfold wp_X17_reckonsDue
  refine ⟨nl320 (by omega) (by omega), ?_⟩
  intro h1 e1
  have m1 : h1.fr 1712 o = some x := by
    rw [e1, new_fr, if_neg (Nat.ne_of_lt ol)]; exact K0.I.K.J.mx
  have q1 : (h1.kd o).1 = 17 := by rw [e1, new_kd, if_neg (Nat.ne_of_lt ol)]; exact K0.I.K.J.k
  have q2 : (h1.kd x).1 = 1 := by rw [e1, new_kd, if_neg (Nat.ne_of_lt xl)]; exact R0.xk
  refine ⟨nn_of rfl q1, ?_⟩
  rw [m1, adr_some]
  refine ⟨nn_of rfl q2, ?_⟩
  intro h4 e4
  have m4 : h4.fr 1712 o = some x := by rw [e4]; exact m1
  rw [m4, adr_some]
  refine ⟨nn_of rfl (by rw [e4]; exact q2), ?_⟩
  intro h6 e6
  have s6 : h6.sz = h.sz + 1 := by rw [e6, e4, e1]; rfl
  refine ⟨nl320 (by rw [e6, e4, e1]; show 1 ≤ h.rc - 1; omega) (by rw [e6, e4, e1]; show 320 ≤ h.rs - 320; omega), ?_⟩
  intro h7 e7
  simp only [s6]
  have FrX : Fr (fun f b => (f = 110 ∨ f = 111) ∧ b = x) h.c h7.c := by
    rw [e7, e6, e4, e1]
    exact ((((Fr.refl _).new _ _ _).sfi _ (fun _ => ⟨.inl rfl, rfl⟩)).sfi _ (fun _ => ⟨.inr rfl, rfl⟩)).new _ _ _
  have Fr7 : Fr (WD A T tu un x) h.c h7.c := FrX.mono (fun f a _ hh => .inr hh)
  have n0 : ∀ b, ¬ ((0 = 110 ∨ 0 = 111) ∧ b = x) := fun b hh => by rcases hh.1 with e | e <;> exact absurd e (by decide)
  have DD : DuD h.c A T tu un x h.sz (h.sz + 1) := ⟨Nat.le_refl _, Nat.le_succ _, by omega, Tr0.l1, Tr0.l2, tun, fun k hk => (R0.nd k hk).vl, fun k hk => va_ne R0 Tr0 hk⟩
  have Z7 : DuS h.c A T tu un x h.sz (h.sz + 1) h7 old (fun _ => False) (h.ai tu) (h.ai un) 0 0 (h.rc - 2) (h.rs - 640) := by
    refine ⟨Fr7, fun k j hk hj => ?_, ?_, ?_, fun i hi => ?_, ?_, ?_, FrX.ai _ Tr0.l1 (n0 _), FrX.ai _ Tr0.l2 (n0 _), ?_, ?_, ?_, ?_⟩
    · rw [FrX.ai _ (R0.nd k hk).vl (n0 _)]; exact V k j hk hj
    · rw [e7, new_kd, if_neg (by omega), e6, e4, e1]
      show (h.new 42 (ni 320) (ni 320)).kd h.sz = _
      rw [new_kd, if_pos rfl]; rfl
    · rw [e7, new_sz, s6]; omega
    · rw [e7, new_ai, if_neg (by omega), e6, e4, e1]
      show (h.new 42 (ni 320) (ni 320)).ai h.sz i = _
      rw [new_ai, if_pos rfl, iP_neg (fun hh => hh)]
    · rw [e7, ← s6, new_kd, if_pos rfl]; rfl
    · rw [e7, new_sz, s6]; omega
    · rw [e7, new_fi, if_neg (by omega), e6, sfi_ne _ _ _ _ (by decide), e4, sfi_same]; rfl
    · rw [e7, new_fi, if_neg (by omega), e6, sfi_same]; rfl
    · rw [e7, new_rc, e6, sfi_rc, e4, sfi_rc, e1, new_rc]; omega
    · rw [e7, new_rs, e6, sfi_rs, e4, sfi_rs, e1, new_rs]
      show h.rs - 320 - 320 = _
      omega
  clear e1 e4 e6 e7 m1 q1 q2 m4 s6 FrX Fr7 n0
  -- knot by knot
  refine xlp_cnt s.kts (fun k q U => q = I k ∧ ∃ w t u, DuS h.c A T tu un x h.sz (h.sz + 1) U w (bel s k ((T.ist G gv W X RL).chg due nw old)) t u (cnP (bel s k ((T.ist G gv W X RL).tch due nw old)) (8 * T.n)) (cnP (bel s k ((T.ist G gv W X RL).chg due nw old)) (8 * T.n)) (h.rc - 2) (h.rs - 640) ∧ KnV (T.ist G gv W X RL) s w t u k ∧ ∀ i j, s.kn i = some j → k ≤ j → w i = old i) ?_ ?_
  · refine ⟨rfl, old, h.ai tu, h.ai un, ?_, ⟨fun _ _ _ hl => absurd hl (Nat.not_lt_zero _), fun _ _ _ hl => absurd hl (Nat.not_lt_zero _)⟩, fun _ _ _ _ => rfl⟩
    rw [cnP_none (fun i _ hh => absurd hh.choose_spec.2.1 (Nat.not_lt_zero _)), cnP_none (fun i _ hh => absurd hh.choose_spec.2.1 (Nat.not_lt_zero _))]
    exact Z7.congr (fun i _ => ⟨fun hh => hh.elim, fun hh => absurd hh.choose_spec.2.1 (Nat.not_lt_zero _)⟩)
  clear Z7 h7 h6 h4 h1
  rintro k _ U K hk ⟨rfl, w, t, u, ZU, NU, OU⟩ hK
  have KU := K0.keepW ZU.F (fun _ _ => WD.w)
  have n7 : U.fi 1707 o = I s.kts := KU.I.R.n1
  refine ⟨nn_of rfl KU.I.K.J.k, ?_⟩
  rw [n7]
  by_cases e : k = s.kts
  · subst e
    refine brT (by (first | omega | ((try simp (disch := omega) only [L_le, le_L, L_lt, lt_L, eq_L, L_eq, I_le, I_lt, I_eq, I_ni, add_L, L_add, I_add, mul_L, L_mul, I_mul, sub_L, L_sub, I_sub, div_L, rem_L]); done) | ((try simp (disch := omega) only [L_le, le_L, L_lt, lt_L, eq_L, L_eq, I_le, I_lt, I_eq, I_ni, add_L, L_add, I_add, mul_L, L_mul, I_mul, sub_L, L_sub, I_sub, div_L, rem_L]); omega))) (hQ U w ZU.F ZU.V (by rw [ZU.tt, ZU.uu]; exact NU) ?_ ?_ ZU.rc ZU.rs)
    · rw [ZU.n1]
      congr 1
      exact cnP_congr (fun i _ => ⟨fun ⟨j, h1, _, h2⟩ => ⟨(F0.lt h1).1, h2⟩, fun ⟨h1, h2⟩ => by obtain ⟨j, h3, h4⟩ := F0.a i h1; exact ⟨j, h4, h3, h2⟩⟩)
    · rw [ZU.n2]
      congr 1
      exact cnP_congr (fun i _ => ⟨fun ⟨j, h1, _, h2⟩ => ⟨(F0.lt h1).1, h2⟩, fun ⟨h1, h2⟩ => by obtain ⟨j, h3, h4⟩ := F0.a i h1; exact ⟨j, h4, h3, h2⟩⟩)
  have hk' : k < s.kts := by omega
  refine brF (by (first | omega | ((try simp (disch := omega) only [L_le, le_L, L_lt, lt_L, eq_L, L_eq, I_le, I_lt, I_eq, I_ni, add_L, L_add, I_add, mul_L, L_mul, I_mul, sub_L, L_sub, I_sub, div_L, rem_L]); done) | ((try simp (disch := omega) only [L_le, le_L, L_lt, lt_L, eq_L, L_eq, I_le, I_lt, I_eq, I_ni, add_L, L_add, I_add, mul_L, L_mul, I_mul, sub_L, L_sub, I_sub, div_L, rem_L]); omega))) ?_
  have xU : x < U.sz := Nat.lt_of_lt_of_le xl ZU.F.sz
  have duU : U.kd du = (42, 320) := by rw [show U.kd du = h.kd du from ZU.F.kd du dul]; exact hdu
  have duA : U.ai du = h.ai du := ZU.F.ai du dul (noWD R0 hdu (fun e => by have := hdu; rw [e, show h.kd tu = (40, 320) from Tr0.k1] at this; exact absurd (Prod.mk.inj this).1 (by decide)) dun)
  have hko : ∀ j, oI (s.kn j) = I k ↔ s.kn j = some k := fun j => oI_eq (fun j' e' => by have := (F0.lt e').2; omega) (by omega)
  -- is it touched
  refine xlp_cnt (8 * T.n) (fun i q U2 => U2 = U ∧ ∃ b : Bool, q = (if b then 1 else 0, I i) ∧ (b = true → ∃ i', s.kn i' = some k ∧ (due i' ∨ ∃ y, T.ed G i' y ∧ bel s k ((T.ist G gv W X RL).chg due nw old) y)) ∧ (b = false → ∀ i', i' < i → s.kn i' = some k → ¬ (due i' ∨ ∃ y, T.ed G i' y ∧ bel s k ((T.ist G gv W X RL).chg due nw old) y))) ⟨rfl, false, rfl, fun hh => absurd hh (by simp), fun _ i' hi' => absurd hi' (Nat.not_lt_zero _)⟩ ?_
  rintro i _ U2 K2 hi ⟨rfl, b, rfl, hb1, hb2⟩ hK2
  have mU : U2.fi 1700 o = I (8 * T.n) := KU.I.m
  refine ⟨nn_of rfl KU.I.K.J.k, ?_⟩
  rw [mU]
  by_cases hgo : i < 8 * T.n ∧ b = false
  · obtain ⟨hi', rfl⟩ := hgo
    have f1 : U2.fr 1701 o = some B.kn := KU.I.K.Y.f1
    refine brT ⟨by (first | omega | ((try simp (disch := omega) only [L_le, le_L, L_lt, lt_L, eq_L, L_eq, I_le, I_lt, I_eq, I_ni, add_L, L_add, I_add, mul_L, L_mul, I_mul, sub_L, L_sub, I_sub, div_L, rem_L]); done) | ((try simp (disch := omega) only [L_le, le_L, L_lt, lt_L, eq_L, L_eq, I_le, I_lt, I_eq, I_ni, add_L, L_add, I_add, mul_L, L_mul, I_mul, sub_L, L_sub, I_sub, div_L, rem_L]); omega)), rfl⟩ ?_
    rw [f1, adr_some]
    refine ⟨ix_of rfl KU.I.K.Y.k1 (by omega) (by decide), ?_⟩
    rw [I_ni (by omega), show U2.ai B.kn i = oI (s.kn i) from KU.I.R.kn i hi']
    by_cases ek : s.kn i = some k
    · have hii := (F0.lt ek).1
      refine brT ((hko i).2 ek) ⟨ix_of rfl duU (by omega) (by decide), ?_⟩
      rw [adr_some, duA, duv i hi']
      by_cases hd : due i
      · refine brF (fun hh => iP_zero.1 hh hd) ?_
        (try simp (disch := omega) only [L_le, le_L, L_lt, lt_L, eq_L, L_eq, I_le, I_lt, I_eq, I_ni, add_L, L_add, I_add, mul_L, L_mul, I_mul, sub_L, L_sub, I_sub, div_L, rem_L])
        exact hK2 _ _ hi' ⟨rfl, true, rfl, fun _ => ⟨i, ek, .inl hd⟩, fun hh => absurd hh (by simp)⟩
      · refine brT (iP_neg hd) ?_
        refine px_hangs (h := U2.srm 0 0) W X KU.I.K.S KU.I.K.R KU.I.K.J ZU.ck ZU.cv hii (pu ?_)
        intro m hm
        (try simp (disch := omega) only [L_le, le_L, L_lt, lt_L, eq_L, L_eq, I_le, I_lt, I_eq, I_ni, add_L, L_add, I_add, mul_L, L_mul, I_mul, sub_L, L_sub, I_sub, div_L, rem_L])
        by_cases hx : ∃ y, T.ed G i y ∧ bel s k ((T.ist G gv W X RL).chg due nw old) y
        · rw [iP_pos hx] at hm
          rw [hm]
          exact hK2 _ _ hi' ⟨rfl, true, rfl, fun _ => ⟨i, ek, .inr hx⟩, fun hh => absurd hh (by simp)⟩
        · rw [iP_neg hx] at hm
          rw [hm]
          refine hK2 _ _ hi' ⟨rfl, false, rfl, fun hh => absurd hh (by simp), fun _ i' hl hk2 hh => ?_⟩
          by_cases ei : i' = i
          · subst ei
            exact hh.elim hd hx
          · exact hb2 rfl i' (by omega) hk2 hh
    · refine brF (fun hh => ek ((hko i).1 hh)) ?_
      (try simp (disch := omega) only [L_le, le_L, L_lt, lt_L, eq_L, L_eq, I_le, I_lt, I_eq, I_ni, add_L, L_add, I_add, mul_L, L_mul, I_mul, sub_L, L_sub, I_sub, div_L, rem_L])
      refine hK2 _ _ hi' ⟨rfl, false, rfl, fun hh => absurd hh (by simp), fun _ i' hl hk2 hh => ?_⟩
      by_cases ei : i' = i
      · subst ei
        exact ek hk2
      · exact hb2 rfl i' (by omega) hk2 hh
  have hstop : ¬ (¬ (I (8 * T.n) ≤ I i) ∧ (if b = true then (1 : Int32) else 0) = 0) := by
    rintro ⟨h1, h2⟩
    rw [I_le (by omega) (by omega)] at h1
    cases b with
    | true => exact absurd h2 (by decide)
    | false => exact hgo ⟨by omega, rfl⟩
  refine brF hstop ?_
  cases b with
  | false =>
    -- untouched
    have hi8 : i = 8 * T.n := by
      have : ¬ i < 8 * T.n := fun hh => hgo ⟨hh, rfl⟩
      omega
    have hun : ∀ y, s.kn y = some k → ¬ (T.ist G gv W X RL).tch due nw old y := by
      intro y hy hh
      obtain ⟨i', h1, h2⟩ := (tch_kn W X RL F0 hy).1 hh
      exact hb2 rfl i' (by rw [hi8]; exact X.isLt (F0.lt h1).1) h1 h2
    have hqu : ∀ y, s.kn y = some k → (T.ist G gv W X RL).val y = old y ∧ ¬ nw y ∧ (Trc (T.ist G gv W X RL).E y y → (T.ist G gv W X RL).tn y = otn y ∧ (T.ist G gv W X RL).us y = ous y) :=
      fun y hy => (T.ist G gv W X RL).quiet hnd hst _ y (Nat.lt_succ_self _) (F0.lt hy).1 (hun y hy)
    have cn1 : cnP (bel s (k + 1) ((T.ist G gv W X RL).tch due nw old)) (8 * T.n) = cnP (bel s k ((T.ist G gv W X RL).tch due nw old)) (8 * T.n) := by
      rw [bel_cn, cnP_none (P := fun i => s.kn i = some k ∧ (T.ist G gv W X RL).tch due nw old i) (fun y _ hh => hun y hh.1 hh.2)]; rfl
    have hunc : ∀ y, s.kn y = some k → ¬ (T.ist G gv W X RL).chg due nw old y := fun y hy hh => hun y hy (((T.ist G gv W X RL).chg_iff (F0.lt hy).1).1 hh).1
    have cn2 : cnP (bel s (k + 1) ((T.ist G gv W X RL).chg due nw old)) (8 * T.n) = cnP (bel s k ((T.ist G gv W X RL).chg due nw old)) (8 * T.n) := by
      rw [bel_cn, cnP_none (P := fun i => s.kn i = some k ∧ (T.ist G gv W X RL).chg due nw old i) (fun y _ hh => hunc y hh.1 hh.2)]; rfl
    have cc : ∀ y, bel s k ((T.ist G gv W X RL).chg due nw old) y ↔ bel s (k + 1) ((T.ist G gv W X RL).chg due nw old) y := fun y => by
      rw [bel_succ]
      exact ⟨.inl, fun hh => hh.elim id (fun hh => absurd hh.2 (hunc y hh.1))⟩
    have oo : ∀ i j, s.kn i = some j → k + 1 ≤ j → w i = old i := fun i j h1 h2 => OU i j h1 (by omega)
    have va : ∀ i j, s.kn i = some j → j < k + 1 → w i = (T.ist G gv W X RL).val i := by
      intro i j h1 h2
      by_cases ej : j = k
      · subst ej
        rw [OU i j h1 (Nat.le_refl _), (hqu i h1).1]
      · exact NU.a i j h1 (by omega)
    refine brT rfl ?_
    refine px_firstOf (h := U2.srm 0 0) KU.I X hk' ?_
    intro i0 hi0 hk0 _
    have hlt0 := X.isLt hi0
    have waU : U2.kd wa = (40, 320) := by rw [show U2.kd wa = h.kd wa from ZU.F.kd wa wal]; exact hwa
    have waA : U2.ai wa = h.ai wa := ZU.F.ai wa wal (noWD R0 hwa wan (fun e => by have := hwa; rw [e, show h.kd un = (42, 320) from Tr0.k2] at this; exact absurd (Prod.mk.inj this).1 (by decide)))
    have f6 : U2.fr 1706 o = some B.ik := KU.I.K.Y.f6
    refine pu ⟨ix_of rfl waU (by omega) (by decide), nn_of rfl KU.I.K.J.k, ?_⟩
    rw [f6, adr_some]
    refine ⟨ix_of rfl KU.I.K.Y.k6 (by omega) (by decide), ?_⟩
    rw [I_ni (by omega), show U2.ai B.ik k = (if s.kt k then 1 else 0) from KU.I.R.ik k hk']
    cases hkt : s.kt k with
    | false =>
      refine brT rfl ?_
      (try simp (disch := omega) only [L_le, le_L, L_lt, lt_L, eq_L, L_eq, I_le, I_lt, I_eq, I_ni, add_L, L_add, I_add, mul_L, L_mul, I_mul, sub_L, L_sub, I_sub, div_L, rem_L])
      refine hK _ _ hk' ⟨rfl, w, t, u, ?_, ⟨va, fun i j h1 h2 h3 => ?_⟩, oo⟩
      · rw [cn1, cn2]; exact ZU.congr (fun y _ => cc y)
      · by_cases ej : j = k
        · subst ej; rw [hkt] at h3; exact absurd h3 (by simp)
        · exact NU.b i j h1 (by omega) h3
    | true =>
      refine brF (by decide) ?_
      have htr := (F0.f i0 k hk0).1 hkt
      obtain ⟨k0, hk00, g1, g2, g3⟩ := hhk i0 hi0 htr (hun i0 hk0)
      obtain ⟨g4, g5⟩ := (wav i0 hi0).2 (hqu i0 hk0).2.1
      have hadU : (U2.kd had).1 = 17 := by rw [show U2.kd had = h.kd had from ZU.F.kd had HR.l]; exact HR.k
      have nf : ∀ f, f ≠ 0 → f ≠ 110 → f ≠ 111 → ∀ a, ¬ WD A T tu un x f a := fun f h0 h1 h2 a hh => by
        rcases WD.w hh with e | e | e
        · exact h0 e.1
        · exact h1 e
        · exact h2 e
      have fh1 : U2.fr 1701 had = some hkn := by rw [show U2.fr 1701 had = h.fr 1701 had from ZU.F.fr _ _ HR.l (nf _ (by decide) (by decide) (by decide) _)]; exact HR.f1
      have fh2 : U2.fr 1710 had = some ht := by rw [show U2.fr 1710 had = h.fr 1710 had from ZU.F.fr _ _ HR.l (nf _ (by decide) (by decide) (by decide) _)]; exact HR.f2
      have fh3 : U2.fr 1711 had = some hu := by rw [show U2.fr 1711 had = h.fr 1711 had from ZU.F.fr _ _ HR.l (nf _ (by decide) (by decide) (by decide) _)]; exact HR.f3
      have kh1 : U2.kd hkn = (40, 320) := by rw [show U2.kd hkn = h.kd hkn from ZU.F.kd _ HR.l1]; exact HR.k1
      have kh2 : U2.kd ht = (40, 320) := by rw [show U2.kd ht = h.kd ht from ZU.F.kd _ HR.l2]; exact HR.k2
      have kh3 : U2.kd hu = (42, 320) := by rw [show U2.kd hu = h.kd hu from ZU.F.kd _ HR.l3]; exact HR.k3
      have x40 : ∀ b, h.kd b = (40, 320) → b ≠ un := fun b hb e => by rw [e, show h.kd un = (42, 320) from Tr0.k2] at hb; exact absurd (Prod.mk.inj hb).1 (by decide)
      have x42 : ∀ b, h.kd b = (42, 320) → b ≠ tu := fun b hb e => by rw [e, show h.kd tu = (40, 320) from Tr0.k1] at hb; exact absurd (Prod.mk.inj hb).1 (by decide)
      have ah1 : U2.ai hkn = h.ai hkn := ZU.F.ai _ HR.l1 (noWD R0 HR.k1 HR.n1 (x40 _ HR.k1))
      have ah2 : U2.ai ht = h.ai ht := ZU.F.ai _ HR.l2 (noWD R0 HR.k2 HR.n2 (x40 _ HR.k2))
      have ah3 : U2.ai hu = h.ai hu := ZU.F.ai _ HR.l3 (noWD R0 HR.k3 (x42 _ HR.k3) HR.n3)
      refine ⟨nn_of rfl hadU, ?_⟩
      rw [adr_some, adr_some, fh1, adr_some, I_ni (by omega), waA, g4]
      refine ⟨ix_of rfl kh1 g5 (by decide), ?_⟩
      rw [I_ni (by omega), ah1, g1]
      refine px_keeps (h := U2.srm 0 0) KU.I.Tr KU.I.K.J.k hadU fh2 fh3 kh2 kh3 (by omega) hk00 HR.n2 HR.n3 tun (by show bz (U2.ai hu k0); rw [ah3, g3]; cases ous i0 <;> simp [bz]) ?_
      intro h9 e9
      have e9' : h9 = (U2.sai tu k (h.ai ht k0)).sai un k (h.ai hu k0) := by
        rw [e9]
        show (U2.sai tu k (U2.ai ht k0)).sai un k (U2.ai hu k0) = _
        rw [ah2, ah3]
      have F9 : Fr (WK A T tu un) U2.c h9.c := by
        rw [e9']
        exact ((Fr.refl _).sai _ _ (fun _ => ⟨rfl, .inr (.inl rfl)⟩)).sai _ _ (fun _ => ⟨rfl, .inr (.inr rfl)⟩)
      have V9 : VaR h9.c A T w := by
        intro q a hq ha
        have hva := DD.v2 q hq
        show h9.ai (A.va q) a = _
        rw [e9', sai_ai, if_neg hva.2, sai_ai, if_neg hva.1]
        exact ZU.V q a hq ha
      have t9 : h9.ai tu = updN t k (I (otn i0)) := by rw [e9', sai_ai, if_neg tun, sai_ai, if_pos rfl, ZU.tt, g2]
      have u9 : h9.ai un = updN u k (if ous i0 then 1 else 0) := by rw [e9', sai_ai, if_pos rfl, sai_ai, if_neg (fun e => tun e.symm), ZU.uu, g3]
      (try simp (disch := omega) only [L_le, le_L, L_lt, lt_L, eq_L, L_eq, I_le, I_lt, I_eq, I_ni, add_L, L_add, I_add, mul_L, L_mul, I_mul, sub_L, L_sub, I_sub, div_L, rem_L])
      refine hK _ _ hk' ⟨rfl, w, updN t k (I (otn i0)), updN u k (if ous i0 then 1 else 0), ?_, ⟨va, fun i j h1 h2 h3 => ?_⟩, oo⟩
      · rw [cn1, cn2]
        exact ((ZU.wk DD xU F9 V9 t9 u9 (by rw [e9']; rfl) (by rw [e9']; rfl)).congr (fun y _ => cc y))
      · by_cases ej : j = k
        · subst ej
          have ec : cls (T.ist G gv W X RL).E (T.ist G gv W X RL).M i = cls (T.ist G gv W X RL).E (T.ist G gv W X RL).M i0 := by
            have c1 : cls (T.ist G gv W X RL).E (T.ist G gv W X RL).M i = mem s j (8 * T.n) := F0.cl W X (F0.lt h1).1 h1
            have c2 : cls (T.ist G gv W X RL).E (T.ist G gv W X RL).M i0 = mem s j (8 * T.n) := F0.cl W X hi0 hk0
            rw [c1, c2]
          obtain ⟨y1, y2⟩ := (hqu i0 hk0).2.2 htr
          have z1 : (T.ist G gv W X RL).tn i = (T.ist G gv W X RL).tn i0 := by unfold Ist.tn; rw [ec]
          have z2 : (T.ist G gv W X RL).us i = (T.ist G gv W X RL).us i0 := by unfold Ist.us; rw [ec]
          rw [updN_same, updN_same, z1, z2, y1, y2]
          exact ⟨rfl, rfl⟩
        · rw [updN_ne _ _ ej, updN_ne _ _ ej]
          exact NU.b i j h1 (by omega) h3
  | true =>
    refine brF (fun hh => absurd (show (1 : Int32) = 0 from hh) (by decide)) ?_
    have hto : ∀ y, s.kn y = some k → (T.ist G gv W X RL).tch due nw old y := fun y hy => (tch_kn W X RL F0 hy).2 (hb1 rfl)
    -- what was there before
    refine xlp_cnt (8 * T.n) (fun i q U3 => q = I i ∧ DuS h.c A T tu un x h.sz (h.sz + 1) U3 w (bel s k ((T.ist G gv W X RL).chg due nw old)) t u (cnP (bel s k ((T.ist G gv W X RL).tch due nw old)) (8 * T.n)) (cnP (bel s k ((T.ist G gv W X RL).chg due nw old)) (8 * T.n)) (h.rc - 2) (h.rs - 640) ∧ ∀ i', i' < i → s.kn i' = some k → U3.ai (h.sz + 1) i' = old i') ⟨rfl, ZU, fun i' hi' => absurd hi' (Nat.not_lt_zero _)⟩ ?_
    clear hb1 hb2 hgo hstop hK2 K2 hi
    rintro i _ U3 K3 hi ⟨rfl, Z3, B3⟩ hK3
    have KU3 := K0.keepW Z3.F (fun _ _ => WD.w)
    have mU3 : U3.fi 1700 o = I (8 * T.n) := KU3.I.m
    refine ⟨nn_of rfl KU3.I.K.J.k, ?_⟩
    rw [mU3]
    by_cases ei : i = 8 * T.n
    · subst ei
      refine brT (by (first | omega | ((try simp (disch := omega) only [L_le, le_L, L_lt, lt_L, eq_L, L_eq, I_le, I_lt, I_eq, I_ni, add_L, L_add, I_add, mul_L, L_mul, I_mul, sub_L, L_sub, I_sub, div_L, rem_L]); done) | ((try simp (disch := omega) only [L_le, le_L, L_lt, lt_L, eq_L, L_eq, I_le, I_lt, I_eq, I_ni, add_L, L_add, I_add, mul_L, L_mul, I_mul, sub_L, L_sub, I_sub, div_L, rem_L]); omega))) ?_
      refine px_reckons (h := U3.srm 0 0) (c0 := U3.c) W X RL D KU3 (Fr.refl _) Z3.V hk' ?_ ?_
      · intro hkt i1 hi1 hk1 h' Z'
        rintro _ rfl
        have x3 : x < U3.sz := Nat.lt_of_lt_of_le xl Z3.F.sz
        have t1 : h'.ai tu = U3.ai tu := Z'.ti
        have t2 : h'.ai un = U3.ai un := Z'.ui
        have Zn := Z3.wk (U' := h'.srm U3.rc U3.rs) DD x3 Z'.F Z'.V (t1.trans Z3.tt) (t2.trans Z3.uu) rfl rfl
        have Nn : KnV (T.ist G gv W X RL) s (updN w i1 (T.mk G gv i1 w)) t u (k + 1) := NU.one W X RL F0 hi1 hk1 hkt
        refine px_marks W X RL K0 hwa wal wan wav DD hk' hto Zn Nn (fun i' hi' hk9 => ?_) (P := fun h2 => K (I k + 1) h2) ?_
        · show h'.ai (h.sz + 1) i' = _
          rw [show h'.ai (h.sz + 1) = U3.ai (h.sz + 1) from Z'.F.ai _ Z3.bl (by
            rintro ⟨_, ⟨q, hq, e9⟩ | e9 | e9⟩
            · have := DD.v q hq; have h9 : h.c.sz = h.sz := rfl; omega
            · have := DD.t; have h9 : h.c.sz = h.sz := rfl; omega
            · have := DD.u; have h9 : h.c.sz = h.sz := rfl; omega)]
          exact B3 i' hi' hk9
        · intro h2 Z2
          (try simp (disch := omega) only [L_le, le_L, L_lt, lt_L, eq_L, L_eq, I_le, I_lt, I_eq, I_ni, add_L, L_add, I_add, mul_L, L_mul, I_mul, sub_L, L_sub, I_sub, div_L, rem_L])
          refine hK _ _ hk' ⟨rfl, _, _, _, Z2, Nn, fun i j h1 h2 => ?_⟩
          rw [updN_ne _ _ (fun e9 => by rw [e9, hk1] at h1; have := Option.some.inj h1; omega)]
          exact OU i j h1 (by omega)
      · intro hkt h' F' V' t1 t2 _ _
        rintro _ rfl
        have x3 : x < U3.sz := Nat.lt_of_lt_of_le xl Z3.F.sz
        have t1' : h'.ai tu = updN t k (I (knotT (T.mk G gv) (mem s k (8 * T.n)) w).2.1) := by
          rw [t1]
          show updN (U3.ai tu) _ _ = _
          rw [Z3.tt]
        have t2' : h'.ai un = updN u k (if (knotT (T.mk G gv) (mem s k (8 * T.n)) w).2.2 then 1 else 0) := by
          rw [t2]
          show updN (U3.ai un) _ _ = _
          rw [Z3.uu]
        have Zn := Z3.wk (U' := h'.srm U3.rc U3.rs) DD x3 F' V' t1' t2' rfl rfl
        have Nn := NU.many W X RL F0 hkt
        refine px_marks W X RL K0 hwa wal wan wav DD hk' hto Zn Nn (fun i' hi' hk9 => ?_) (P := fun h2 => K (I k + 1) h2) ?_
        · show h'.ai (h.sz + 1) i' = _
          rw [show h'.ai (h.sz + 1) = U3.ai (h.sz + 1) from F'.ai _ Z3.bl (by
            rintro ⟨_, ⟨q, hq, e9⟩ | e9 | e9⟩
            · have := DD.v q hq; have h9 : h.c.sz = h.sz := rfl; omega
            · have := DD.t; have h9 : h.c.sz = h.sz := rfl; omega
            · have := DD.u; have h9 : h.c.sz = h.sz := rfl; omega)]
          exact B3 i' hi' hk9
        · intro h2 Z2
          (try simp (disch := omega) only [L_le, le_L, L_lt, lt_L, eq_L, L_eq, I_le, I_lt, I_eq, I_ni, add_L, L_add, I_add, mul_L, L_mul, I_mul, sub_L, L_sub, I_sub, div_L, rem_L])
          refine hK _ _ hk' ⟨rfl, _, _, _, Z2, Nn, fun i j h1 h2 => ?_⟩
          rw [knot_out (fun hh => by rw [(mem_mem.1 hh).2] at h1; have := Option.some.inj h1; omega)]
          exact OU i j h1 (by omega)
    have hi3 : i < 8 * T.n := by omega
    have f13 : U3.fr 1701 o = some B.kn := KU3.I.K.Y.f1
    refine brF (by (first | omega | ((try simp (disch := omega) only [L_le, le_L, L_lt, lt_L, eq_L, L_eq, I_le, I_lt, I_eq, I_ni, add_L, L_add, I_add, mul_L, L_mul, I_mul, sub_L, L_sub, I_sub, div_L, rem_L]); done) | ((try simp (disch := omega) only [L_le, le_L, L_lt, lt_L, eq_L, L_eq, I_le, I_lt, I_eq, I_ni, add_L, L_add, I_add, mul_L, L_mul, I_mul, sub_L, L_sub, I_sub, div_L, rem_L]); omega))) ?_
    rw [f13, adr_some]
    refine ⟨ix_of rfl KU3.I.K.Y.k1 (by omega) (by decide), ?_⟩
    rw [I_ni (by omega), show U3.ai B.kn i = oI (s.kn i) from KU3.I.R.kn i hi3]
    by_cases ek : s.kn i = some k
    · refine brT ((hko i).2 ek) ?_
      refine px_valueOf (h := U3.srm 0 0) KU3.I.K.R X KU3.I.K.J Z3.V hi3 (pu ⟨ix_of rfl Z3.bk (by omega) (by decide), ?_⟩)
      rintro _ rfl
      (try simp (disch := omega) only [L_le, le_L, L_lt, lt_L, eq_L, L_eq, I_le, I_lt, I_eq, I_ni, add_L, L_add, I_add, mul_L, L_mul, I_mul, sub_L, L_sub, I_sub, div_L, rem_L])
      refine hK3 _ _ hi3 ⟨rfl, Z3.sbf DD i _, fun i' hl hk9 => ?_⟩
      rw [sai_ai, if_pos rfl]
      by_cases ei' : i' = i
      · subst ei'
        rw [updN_same]
        exact OU i' k ek (Nat.le_refl _)
      · rw [updN_ne _ _ ei']
        exact B3 i' (by omega) hk9
    · refine brF (fun hh => ek ((hko i).1 hh)) ?_
      (try simp (disch := omega) only [L_le, le_L, L_lt, lt_L, eq_L, L_eq, I_le, I_lt, I_eq, I_ni, add_L, L_add, I_add, mul_L, L_mul, I_mul, sub_L, L_sub, I_sub, div_L, rem_L])
      refine hK3 _ _ hi3 ⟨rfl, Z3, fun i' hl hk9 => ?_⟩
      by_cases ei' : i' = i
      · subst ei'; exact absurd hk9 ek
      · exact B3 i' (by omega) hk9
end
