/-! plain: cn3 -/
set_option maxRecDepth 100000
section
variable {G : Gv} {T : Tv} {h : AH} {L : GA} {A : TA} {x o : Nat} {B : IA}

/-- numbers of Tarjan's walk stay small. -/
def unv (s : TjS) : Nat := ((List.range 320).filter (fun v => decide (s.ord v = 0))).length
def TjN (s : TjS) : Prop := s.kts + s.pd ≤ s.met ∧ s.met + unv s ≤ 320

theorem TjI.pile_inj {V E gr s} (X : TjI V E gr s) {j k : Nat} (hj : j < s.pd) (hk : k < s.pd) (e : s.pile j = s.pile k) : j = k := by
  rcases Nat.lt_trichotomy j k with hl | hl | hl
  · have := X.p3 j k hl hk; rw [e] at this; exact absurd this (Nat.lt_irrefl _)
  · exact hl
  · have := X.p3 k j hl hj; rw [e] at this; exact absurd this (Nat.lt_irrefl _)

theorem TjL.top {V E gr i D s0 s} (X : TjL V E gr i D s0 s) {v : Nat} : (s.inp v ∧ s.ord i ≤ s.ord v) ↔ ∃ k, s0.pd ≤ k ∧ k < s.pd ∧ s.pile k = v := by
  constructor
  · rintro ⟨hv, hle⟩
    obtain ⟨k, hk, e⟩ := X.I.p2 v hv
    refine ⟨k, Nat.le_of_not_lt fun hl => ?_, hk, e⟩
    have := X.I.p3 k s0.pd hl X.pd
    rw [X.pi, e] at this
    omega
  · rintro ⟨k, h1, h2, rfl⟩
    refine ⟨X.I.p1 k h2, ?_⟩
    by_cases e : k = s0.pd
    · rw [e, X.pi]; exact Nat.le_refl _
    · have := X.I.p3 s0.pd k (by omega) h2
      rw [X.pi] at this
      omega

theorem px_closesI (W : G.WF) (X : T.WF G) {c0 : HC} (K0 : TjB c0 L A G T x o B) {s0 s : TjS} {i : Nat} {gr : Nat → Prop} (hT : TjL (T.is G) (T.ed G) gr i (fun _ => True) s0 s) (F : Fr (WT B o) c0 h.c) (R : TjR h.c o B (8 * T.n) s)
    (hN : TjN s) (hi : T.is G i) {Q : AH → Prop}
    (hQ : ∀ h' b, (b = true ↔ (∃ v, v ≠ i ∧ s.inp v ∧ s.ord i ≤ s.ord v) ∨ T.ed G i i) → Fr (WT B o) c0 h'.c → TjR h'.c o B (8 * T.n) (tjclose s i s0.pd b) → h'.rc = h.rc → h'.rs = h.rs → Q h') : wp_X17_closes o (I i) h Q := by
  have h40 := X.n40
  have hlt := X.isLt hi
  have hpd := hT.pd
  have hb : s.pd ≤ 320 ∧ s.kts ≤ 320 ∧ s.met ≤ 320 ∧ s.kts + s.pd ≤ 320 := by have := hN.1; have := hN.2; omega
  have pv : ∀ k, k < s.pd → s.pile k < 8 * T.n := fun k hk => X.isLt (hT.I.a3 _ (hT.I.p1 k hk).1)
  unfold wp_X17_closes
  refine xlp_cnt (s.pd - s0.pd - 1) (fun j q T' => q = I j ∧ Fr (WT B o) c0 T'.c ∧ T'.rc = h.rc ∧ T'.rs = h.rs ∧ T'.fi 1708 o = I (s.pd - j) ∧ T'.fi 1707 o = I s.kts ∧ T'.fi 1709 o = I s.met ∧ T'.ai B.od = h.ai B.od ∧ T'.ai B.lw = h.ai B.lw ∧ T'.ai B.pi = h.ai B.pi ∧ T'.ai B.ik = h.ai B.ik ∧
    (∀ k, k < s.pd - j → T'.ai B.ip (s.pile k) = 1) ∧ (∀ v, v < 320 → (∀ k, k < s.pd - j → s.pile k ≠ v) → T'.ai B.ip v = 0) ∧
    (∀ k, s.pd - j ≤ k → k < s.pd → T'.ai B.kn (s.pile k) = I s.kts) ∧ (∀ v, v < 8 * T.n → (∀ k, s.pd - j ≤ k → k < s.pd → s.pile k ≠ v) → T'.ai B.kn v = oI (s.kn v))) ?_ ?_
  · refine ⟨rfl, F, rfl, rfl, R.n2, R.n1, R.n3, rfl, rfl, rfl, rfl, fun k hk => ?_, fun v hv hn => ?_, fun k h1 h2 => by omega, fun v hv _ => R.kn v hv⟩
    · have hp := hT.I.p1 k (by omega)
      have := R.ip (s.pile k) (by have := pv k (by omega); omega)
      rw [if_pos (show s.ord (s.pile k) ≠ 0 ∧ s.kn (s.pile k) = none from hp)] at this; exact this
    · have := R.ip v hv
      rw [if_neg (fun hp => by
        obtain ⟨k, hk, e⟩ := hT.I.p2 v hp
        exact hn k (by omega) e)] at this
      exact this
  rintro j _ U K hj ⟨rfl, FU, u1, u2, u3, u4, u5, u6, u7, u8, u9, u10, u11, u12, u13⟩ hK
  have KU := K0.keep FU
  have Y := KU.Y
  have f4 : U.fr 1704 o = some B.pi := Y.f4
  have f5 : U.fr 1705 o = some B.ip := Y.f5
  have f1 : U.fr 1701 o = some B.kn := Y.f1
  have f6 : U.fr 1706 o = some B.ik := Y.f6
  have hpj := pv (s.pd - j - 1) (by omega)
  have e8 : U.fi 1708 o - 1 = I (s.pd - j - 1) := by rw [u3]; exact I_sub (a := s.pd - j) (b := 1) (by omega)
  have epi : U.ai B.pi (s.pd - j - 1) = I (s.pile (s.pd - j - 1)) := by rw [u8]; exact R.pi _ (by omega)
  have d15 : B.kn ≠ B.ip := fun e => by have := Y.k1; rw [e, Y.k5] at this; exact absurd (Prod.mk.inj this).1 (by decide)
  have d25 : B.od ≠ B.ip := fun e => by have := Y.k2; rw [e, Y.k5] at this; exact absurd (Prod.mk.inj this).1 (by decide)
  have d35 : B.lw ≠ B.ip := fun e => by have := Y.k3; rw [e, Y.k5] at this; exact absurd (Prod.mk.inj this).1 (by decide)
  have d45 : B.pi ≠ B.ip := fun e => by have := Y.k4; rw [e, Y.k5] at this; exact absurd (Prod.mk.inj this).1 (by decide)
  have d16 : B.kn ≠ B.ik := fun e => by have := Y.k1; rw [e, Y.k6] at this; exact absurd (Prod.mk.inj this).1 (by decide)
  have d26 : B.od ≠ B.ik := fun e => by have := Y.k2; rw [e, Y.k6] at this; exact absurd (Prod.mk.inj this).1 (by decide)
  have d36 : B.lw ≠ B.ik := fun e => by have := Y.k3; rw [e, Y.k6] at this; exact absurd (Prod.mk.inj this).1 (by decide)
  have d46 : B.pi ≠ B.ik := fun e => by have := Y.k4; rw [e, Y.k6] at this; exact absurd (Prod.mk.inj this).1 (by decide)
  refine ⟨nn_of rfl KU.J.k, ?_⟩
  rintro _ rfl
  rw [e8]
  generalize hV : U.sfi 1708 o (I (s.pd - j - 1)) = V
  have FV : Fr (WT B o) c0 V.c := by rw [← hV]; exact FU.sfi _ (fun _ => .inr ⟨.inr (.inl rfl), rfl⟩)
  have g4 : V.fr 1704 o = some B.pi := by rw [← hV]; exact f4
  have g5 : V.fr 1705 o = some B.ip := by rw [← hV]; exact f5
  have g1 : V.fr 1701 o = some B.kn := by rw [← hV]; exact f1
  have g6 : V.fr 1706 o = some B.ik := by rw [← hV]; exact f6
  have g8 : V.fi 1708 o = I (s.pd - j - 1) := by rw [← hV]; exact sfi_same _ _ _ _
  have g7 : V.fi 1707 o = I s.kts := by rw [← hV, sfi_ne _ _ _ _ (by decide)]; exact u4
  have g9 : V.fi 1709 o = I s.met := by rw [← hV, sfi_ne _ _ _ _ (by decide)]; exact u5
  have ga : V.ai = U.ai := by rw [← hV]; rfl
  have gk : V.kd = U.kd := by rw [← hV]; rfl
  have gr1 : V.rc = h.rc := by rw [← hV]; exact u1
  have gr2 : V.rs = h.rs := by rw [← hV]; exact u2
  have epi' : V.ai B.pi (s.pd - j - 1) = I (s.pile (s.pd - j - 1)) := by rw [ga]; exact epi
  rw [g4, adr_some, g8, I_ni (by omega), epi', g5]
  refine ⟨ix_of rfl (by rw [gk]; exact Y.k4) (by omega) (by decide), ix_of rfl (by rw [gk]; exact Y.k5) (by omega) (by decide), ?_⟩
  rintro _ rfl
  rw [adr_some, I_ni (by omega), nar_0]
  have g1' : (V.sai B.ip (s.pile (s.pd - j - 1)) 0).fr 1701 o = some B.kn := g1
  have g7' : (V.sai B.ip (s.pile (s.pd - j - 1)) 0).fi 1707 o = I s.kts := g7
  rw [g1', adr_some, g7']
  refine ⟨ix_of rfl (by show V.kd _ = _; rw [gk]; exact Y.k1) (by omega) (by decide), ?_⟩
  rintro _ rfl
  generalize hZ : (V.sai B.ip (s.pile (s.pd - j - 1)) 0).sai B.kn (s.pile (s.pd - j - 1)) (I s.kts) = Z
  have FZ : Fr (WT B o) c0 Z.c := by
    rw [← hZ]
    exact Fr.sai (h := V.sai B.ip (s.pile (s.pd - j - 1)) 0) (FV.sai _ _ (fun _ => .inl ⟨rfl, .inr (.inr (.inr (.inr (.inl rfl))))⟩)) _ _ (fun _ => .inl ⟨rfl, .inl rfl⟩)
  have z8 : Z.fi 1708 o = I (s.pd - j - 1) := by rw [← hZ]; exact g8
  have z7 : Z.fi 1707 o = I s.kts := by rw [← hZ]; exact g7
  have z9 : Z.fi 1709 o = I s.met := by rw [← hZ]; exact g9
  have zc : Z.rc = h.rc := by rw [← hZ]; exact gr1
  have zs : Z.rs = h.rs := by rw [← hZ]; exact gr2
  have z6 : Z.fr 1706 o = some B.ik := by rw [← hZ]; exact g6
  have zai : ∀ b, b ≠ B.kn → b ≠ B.ip → Z.ai b = U.ai b := by
    intro b h1 h2
    rw [← hZ, sai_ai, if_neg h1, sai_ai, if_neg h2, ga]
  have zkn : Z.ai B.kn = updN (U.ai B.kn) (s.pile (s.pd - j - 1)) (I s.kts) := by
    rw [← hZ, sai_ai, if_pos rfl, sai_ai, if_neg d15, ga]
  have zip : Z.ai B.ip = updN (U.ai B.ip) (s.pile (s.pd - j - 1)) 0 := by
    rw [← hZ, sai_ai, if_neg d15.symm, sai_ai, if_pos rfl, ga]
  have inj : ∀ k, k < s.pd → s.pile k = s.pile (s.pd - j - 1) → k = s.pd - j - 1 := fun k hk e => hT.I.pile_inj hk (by omega) e
  have z10 : ∀ k, k < s.pd - (j + 1) → Z.ai B.ip (s.pile k) = 1 := by
    intro k hk
    rw [zip, updN_ne _ _ (fun e => by have := inj k (by omega) e; omega)]
    exact u10 k (by omega)
  have z11 : ∀ v, v < 320 → (∀ k, k < s.pd - (j + 1) → s.pile k ≠ v) → Z.ai B.ip v = 0 := by
    intro v hv hn
    rw [zip]
    by_cases e : v = s.pile (s.pd - j - 1)
    · rw [e, updN_same]
    · rw [updN_ne _ _ e]
      refine u11 v hv (fun k hk hk2 => ?_)
      by_cases ek : k = s.pd - j - 1
      · exact e (by rw [← ek]; exact hk2.symm)
      · exact hn k (by omega) hk2
  have z12 : ∀ k, s.pd - (j + 1) ≤ k → k < s.pd → Z.ai B.kn (s.pile k) = I s.kts := by
    intro k h1 h2
    rw [zkn]
    by_cases ek : k = s.pd - j - 1
    · rw [ek, updN_same]
    · rw [updN_ne _ _ (fun e => ek (inj k h2 e))]
      exact u12 k (by omega) h2
  have z13 : ∀ v, v < 8 * T.n → (∀ k, s.pd - (j + 1) ≤ k → k < s.pd → s.pile k ≠ v) → Z.ai B.kn v = oI (s.kn v) := by
    intro v hv hn
    rw [zkn, updN_ne _ _ (fun e => hn (s.pd - j - 1) (by omega) (by omega) e.symm)]
    exact u13 v hv (fun k h1 h2 => hn k (by omega) h2)
  have eat : (I (s.pile (s.pd - j - 1)) = I i) ↔ s.pd - j - 1 = s0.pd := by
    rw [I_eq (by omega) (by omega)]
    constructor
    · intro e
      exact (hT.I.pile_inj (by omega) hT.pd (e.trans hT.pi.symm))
    · intro e; rw [e]; exact hT.pi
  by_cases hend : s.pd - j - 1 = s0.pd
  · refine brT (eat.2 hend) ?_
    have KZ := K0.keep FZ
    -- whether it is a knot
    refine ⟨fun y T' => T' = Z ∧ ∃ b : Bool, y = (if b then 1 else 0) ∧ (b = true ↔ (∃ v, v ≠ i ∧ s.inp v ∧ s.ord i ≤ s.ord v) ∨ T.ed G i i), ?_, ?_⟩
    · have hmore : (∃ v, v ≠ i ∧ s.inp v ∧ s.ord i ≤ s.ord v) ↔ 1 < j + 1 := by
        constructor
        · rintro ⟨v, hv, hp⟩
          obtain ⟨k, h1, h2, e⟩ := hT.top.1 hp
          have : k ≠ s0.pd := fun ek => hv (by rw [← e, ek]; exact hT.pi)
          omega
        · intro hh
          refine ⟨s.pile (s0.pd + 1), fun e => ?_, hT.top.2 ⟨s0.pd + 1, by omega, by omega, rfl⟩⟩
          have := hT.I.pile_inj (j := s0.pd + 1) (k := s0.pd) (by omega) hT.pd (e.trans hT.pi.symm)
          omega
      by_cases hn : 1 < j + 1
      · refine brT (by (first | omega | ((try simp (disch := omega) only [L_le, le_L, L_lt, lt_L, eq_L, L_eq, I_le, I_lt, I_eq, I_ni, add_L, L_add, I_add, mul_L, L_mul, I_mul, sub_L, L_sub, I_sub, div_L, rem_L]); done) | ((try simp (disch := omega) only [L_le, le_L, L_lt, lt_L, eq_L, L_eq, I_le, I_lt, I_eq, I_ni, add_L, L_add, I_add, mul_L, L_mul, I_mul, sub_L, L_sub, I_sub, div_L, rem_L]); omega))) ⟨rfl, true, rfl, ?_⟩
        simp only [true_iff]
        exact .inl (hmore.2 hn)
      · refine brF (by (first | omega | ((try simp (disch := omega) only [L_le, le_L, L_lt, lt_L, eq_L, L_eq, I_le, I_lt, I_eq, I_ni, add_L, L_add, I_add, mul_L, L_mul, I_mul, sub_L, L_sub, I_sub, div_L, rem_L]); done) | ((try simp (disch := omega) only [L_le, le_L, L_lt, lt_L, eq_L, L_eq, I_le, I_lt, I_eq, I_ni, add_L, L_add, I_add, mul_L, L_mul, I_mul, sub_L, L_sub, I_sub, div_L, rem_L]); omega))) ?_
        by_cases hed : T.ed G i i
        · refine px_asksFor (h := Z.srm 0 0) W X KZ.S KZ.R KZ.J hi (by omega) true (by simp [hed]) (pu ?_)
          rintro m rfl
          exact ⟨rfl, true, rfl, by simp [hed]⟩
        · refine px_asksFor (h := Z.srm 0 0) W X KZ.S KZ.R KZ.J hi (by omega) false (by simp [hed]) (pu ?_)
          rintro m rfl
          refine ⟨rfl, false, rfl, ?_⟩
          simp only [Bool.false_eq_true, false_iff, not_or]
          exact ⟨fun hh => hn (hmore.1 hh), hed⟩
    rintro y T' ⟨rfl, b, rfl, hbb⟩
    rw [z6, adr_some, z7, I_ni (by omega)]
    have enar : vp_nar .boolean (if b then 1 else 0) = if b then 1 else 0 := by cases b <;> rfl
    refine ⟨ix_of rfl KZ.Y.k6 (by omega) (by decide), ?_⟩
    rintro _ rfl
    rw [enar]
    refine ⟨nn_of rfl KZ.J.k, ?_⟩
    rintro _ rfl
    have e7 : (T'.sai B.ik s.kts (if b then 1 else 0)).fi 1707 o = I s.kts := z7
    rw [e7]
    refine hQ _ b hbb (Fr.sfi (h := T'.sai B.ik s.kts (if b then 1 else 0)) (FZ.sai _ _ (fun _ => .inl ⟨rfl, .inr (.inr (.inr (.inr (.inr rfl))))⟩)) _ (fun _ => .inr ⟨.inl rfl, rfl⟩)) ?_ zc zs
    have ax : ∀ b', b' ≠ B.ik → ((T'.sai B.ik s.kts (if b then 1 else 0)).sfi 1707 o (I s.kts + 1)).c.ai b' = T'.ai b' := by
      intro b' hb'
      show (T'.sai B.ik s.kts (if b then 1 else 0)).ai b' = _
      rw [sai_ai, if_neg hb']
    have etop : ∀ v, (s.inp v ∧ s.ord i ≤ s.ord v) ↔ ∃ k, s0.pd ≤ k ∧ k < s.pd ∧ s.pile k = v := fun v => hT.top
    refine ⟨fun v hv => ?_, fun v hv => ?_, fun k hk => ?_, fun v hv => ?_, fun v hv => ?_, fun k hk => ?_, ?_, ?_, ?_⟩
    · rw [ax _ d26, zai _ Y.d12.symm d25, u6]; exact R.od v hv
    · rw [ax _ d36, zai _ Y.d13.symm d35, u7]; exact R.lw v hv
    · rw [ax _ d46, zai _ Y.d14.symm d45, u8]; exact R.pi k (Nat.lt_trans hk hT.pd)
    · rw [ax _ Y.d56]
      show T'.ai B.ip v = if s.ord v ≠ 0 ∧ (if s.ord v ≠ 0 ∧ s.kn v = none ∧ s.ord i ≤ s.ord v then some s.kts else s.kn v) = none then 1 else 0
      by_cases hp : s.inp v
      · by_cases hle : s.ord i ≤ s.ord v
        · rw [show (if s.ord v ≠ 0 ∧ s.kn v = none ∧ s.ord i ≤ s.ord v then some s.kts else s.kn v) = some s.kts from if_pos ⟨hp.1, hp.2, hle⟩, if_neg (by simp)]
          obtain ⟨k, h1, h2, e⟩ := (etop v).1 ⟨hp, hle⟩
          exact z11 v hv (fun k' hk' e' => by
            have := hT.I.pile_inj (j := k') (k := k) (by omega) h2 (e'.trans e.symm)
            omega)
        · rw [show (if s.ord v ≠ 0 ∧ s.kn v = none ∧ s.ord i ≤ s.ord v then some s.kts else s.kn v) = s.kn v from if_neg (fun hh => hle hh.2.2), if_pos (show s.ord v ≠ 0 ∧ s.kn v = none from hp)]
          obtain ⟨k, hk, e⟩ := hT.I.p2 v hp
          rw [← e]
          refine z10 k ?_
          have : ¬ s0.pd ≤ k := fun hh => hle ((etop v).2 ⟨k, hh, hk, e⟩).2
          omega
      · rw [show (if s.ord v ≠ 0 ∧ s.kn v = none ∧ s.ord i ≤ s.ord v then some s.kts else s.kn v) = s.kn v from if_neg (fun hh => hp ⟨hh.1, hh.2.1⟩), if_neg (show ¬ (s.ord v ≠ 0 ∧ s.kn v = none) from hp)]
        exact z11 v hv (fun k hk e => hp (by rw [← e]; exact hT.I.p1 k (by omega)))
    · rw [ax _ d16]
      show T'.ai B.kn v = oI (if s.ord v ≠ 0 ∧ s.kn v = none ∧ s.ord i ≤ s.ord v then some s.kts else s.kn v)
      by_cases hp : s.inp v ∧ s.ord i ≤ s.ord v
      · rw [if_pos ⟨hp.1.1, hp.1.2, hp.2⟩]
        obtain ⟨k, h1, h2, e⟩ := (etop v).1 hp
        rw [← e]
        exact z12 k (by omega) h2
      · rw [if_neg (fun hh => hp ⟨⟨hh.1, hh.2.1⟩, hh.2.2⟩)]
        exact z13 v hv (fun k h1 h2 e => hp ((etop v).2 ⟨k, by omega, h2, e⟩))
    · show (T'.sai B.ik s.kts (if b then 1 else 0)).ai B.ik k = if (if k = s.kts then b else s.kt k) then 1 else 0
      rw [sai_ai, if_pos rfl]
      replace hk : k < s.kts + 1 := hk
      by_cases e : k = s.kts
      · subst e; rw [updN_same, if_pos rfl]
      · rw [updN_ne _ _ e, if_neg e, zai _ d16.symm Y.d56.symm, u9]
        exact R.ik k (by omega)
    · exact (sfi_same _ _ _ _).trans (add_L 1 _)
    · rw [pc_fi, sfi_ne _ _ _ _ (by decide)]
      show T'.fi 1708 o = I s0.pd
      rw [z8, hend]
    · rw [pc_fi, sfi_ne _ _ _ _ (by decide)]
      exact z9
  · refine brF (fun hh => hend (eat.1 hh)) ?_
    (try simp (disch := omega) only [L_le, le_L, L_lt, lt_L, eq_L, L_eq, I_le, I_lt, I_eq, I_ni, add_L, L_add, I_add, mul_L, L_mul, I_mul, sub_L, L_sub, I_sub, div_L, rem_L])
    refine hK _ _ (by omega) ⟨rfl, FZ, zc, zs, ?_, z7, z9, ?_, ?_, ?_, ?_, z10, z11, z12, z13⟩
    · rw [z8, show s.pd - j - 1 = s.pd - (j + 1) by omega]
    · rw [zai _ Y.d12.symm d25]; exact u6
    · rw [zai _ Y.d13.symm d35]; exact u7
    · rw [zai _ Y.d14.symm d45]; exact u8
    · rw [zai _ d16.symm Y.d56.symm]; exact u9
end
