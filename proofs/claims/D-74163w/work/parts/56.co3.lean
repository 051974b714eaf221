/-! plain: cg9 cga cgb -/
set_option maxRecDepth 100000
section
variable {G : Gv} {h : AH} {L : GA}

/-- an iterator of a list, at k. -/
def It (c : HC) (i a n : Nat) : Prop :=
  ((c.kd i).1 = 24) ∧
  (i < c.sz) ∧
  (c.fr 2403 i = some a) ∧
  (c.fi 2400 i = I n) ∧
  (c.fi 2402 i = c.fi 2300 a)
theorem It.k {c : HC} {i a n : Nat} (h9 : It c i a n) : (c.kd i).1 = 24 := h9.1
theorem It.l {c : HC} {i a n : Nat} (h9 : It c i a n) : i < c.sz := h9.2.1
theorem It.a0 {c : HC} {i a n : Nat} (h9 : It c i a n) : c.fr 2403 i = some a := h9.2.2.1
theorem It.c0 {c : HC} {i a n : Nat} (h9 : It c i a n) : c.fi 2400 i = I n := h9.2.2.2.1
theorem It.m {c : HC} {i a n : Nat} (h9 : It c i a n) : c.fi 2402 i = c.fi 2300 a := h9.2.2.2.2

theorem It.keep {W c c' i a k} (X : It c i a k) (ha : a < c.sz) (F : Fr W c c') (h1 : ¬ W 2403 i) (h2 : ¬ W 2400 i) (h3 : ¬ W 2402 i) (h4 : ¬ W 2300 a) : It c' i a k :=
  ⟨by rw [F.kd _ X.l]; exact X.k, Nat.lt_of_lt_of_le X.l F.sz, by rw [F.fr _ _ X.l h1]; exact X.a0, by rw [F.fi _ _ X.l h2]; exact X.c0, by rw [F.fi _ _ X.l h3, F.fi _ _ ha h4]; exact X.m⟩

theorem pc_iterator {a d m n x} (X : Ls h.c a d m n x) (hr : 1 ≤ h.rc) (hs : 4 ≤ h.rs) {Q : Option Nat → AH → Prop}
    (hQ : ∀ h', Fr W0 h.c h'.c → It h'.c h.sz a 0 → h'.sz = h.sz + 1 → h'.rc = h.rc - 1 → h'.rs = h.rs - 4 → Q (some h.sz) h') : wp_J12_iterator a h Q := by
  have hal : a < h.sz := X.al
  unfold wp_J12_iterator
  refine ⟨⟨hr, hs⟩, ?_⟩
  rintro _ rfl
  unfold wp_J16_init
  have k24 : (((h.new 24 0 4).srm 0 0).kd h.sz).1 = 24 := by
    show ((h.new 24 0 4).kd h.sz).1 = 24
    rw [new_kd, if_pos rfl]
  refine ⟨nn_of rfl k24, ?_⟩
  rintro _ rfl _ rfl
  have e1 : (((((h.new 24 0 4).srm 0 0).sfr 2403 h.sz (some a)).sfi 2401 h.sz (-1)).fr 2403 h.sz) = some a := sfr_same _ _ _ _
  have ka : ((((((h.new 24 0 4).srm 0 0).sfr 2403 h.sz (some a)).sfi 2401 h.sz (-1)).kd a)).1 = 23 := by
    show ((h.new 24 0 4).kd a).1 = 23
    rw [new_kd, if_neg (by omega)]; exact X.k
  rw [e1]
  refine ⟨nn_of rfl ka, ?_⟩
  rintro _ rfl
  rintro _ rfl
  refine hQ _ ?_ ?_ rfl rfl rfl
  · refine Fr.sfi (h := (((h.new 24 0 4).srm 0 0).sfr 2403 h.sz (some a)).sfi 2401 h.sz (-1)) ?_ _ (fun hh => absurd hh (Nat.lt_irrefl _))
    refine Fr.sfi (h := ((h.new 24 0 4).srm 0 0).sfr 2403 h.sz (some a)) ?_ _ (fun hh => absurd hh (Nat.lt_irrefl _))
    refine Fr.sfr (h := (h.new 24 0 4).srm 0 0) ?_ _ (fun hh => absurd hh (Nat.lt_irrefl _))
    exact (Fr.refl h.c).new 24 0 4
  · have hne : a ≠ h.sz := by omega
    refine ⟨k24, Nat.lt_succ_self _, sfr_same _ _ _ _, ?_, ?_⟩
    · rw [pc_srm, pc_fi, sfi_ne _ _ _ _ (by decide), sfi_ne _ _ _ _ (by decide)]
      exact if_pos rfl
    · rw [pc_srm, pc_fi, sfi_same, sfi_ne _ _ _ _ (by decide)]; rfl

theorem pc_hasNext {i a d m n x k} (X : Ls h.c a d m n x) (T : It h.c i a k) (hk : k ≤ n) {Q : Int32 → AH → Prop} (hQ : Q (if k = n then 0 else 1) h) : wp_J16_hasNext i h Q := by
  have e1 : h.fr 2403 i = some a := T.a0
  have e2 : h.fi 2400 i = I k := T.c0
  have e3 : h.fi 2302 a = I n := X.sz
  have := X.nm
  have := X.mb
  unfold wp_J16_hasNext
  rw [e1, adr_some, e2, e3]
  refine ⟨nn_of rfl T.k, nn_of rfl X.k, ?_⟩
  rintro m rfl
  (try simp (disch := omega) only [L_le, le_L, L_lt, lt_L, eq_L, L_eq, I_le, I_lt, I_eq, I_ni, add_L, L_add, I_add, mul_L, L_mul, I_mul, sub_L, L_sub, I_sub, div_L, rem_L])
  refine ⟨?_, hQ⟩
  by_cases e : k = n <;> simp [bz, e]

theorem pc_next {i a d m n x k} (X : Ls h.c a d m n x) (T : It h.c i a k) (hk : k < n) (hia : i ≠ a) {Q : Option Nat → AH → Prop}
    (hQ : ∀ h', Fr (fun f b => b = i ∧ (f = 2400 ∨ f = 2401)) h.c h'.c → It h'.c i a (k + 1) → h'.rc = h.rc → h'.rs = h.rs → h'.sz = h.sz → Q (some (x k)) h') : wp_J16_next i h Q := by
  have e1 : h.fr 2403 i = some a := T.a0
  have e2 : h.fi 2400 i = I k := T.c0
  have e3 : h.fi 2302 a = I n := X.sz
  have e4 : h.fr 2301 a = some d := X.e
  have e5 : h.fi 2402 i = h.fi 2300 a := T.m
  have dk : h.kd d = (44, m) := X.dk
  have := X.nm
  have := X.mb
  unfold wp_J16_next
  refine ⟨nn_of rfl T.k, 0, 0, ⟨Nat.zero_le _, Nat.zero_le _⟩, ?_⟩
  show wp_J16_checkForComodification i (h.srm 0 0) _
  unfold wp_J16_checkForComodification
  have e1' : (h.srm 0 0).fr 2403 i = some a := e1
  rw [e1', adr_some]
  refine ⟨nn_of rfl T.k, nn_of rfl X.k, brT e5.symm ?_⟩
  have eb : (h.srm 0 0).srm (h.rc - 0) (h.rs - 0) = h := rfl
  intro h4 e4'
  rw [eb] at e4'
  subst e4'
  rw [e1, adr_some, e2, e3, e4, adr_some]
  refine ⟨nn_of rfl T.k, nn_of rfl X.k, brT (by (first | omega | ((try simp (disch := omega) only [L_le, le_L, L_lt, lt_L, eq_L, L_eq, I_le, I_lt, I_eq, I_ni, add_L, L_add, I_add, mul_L, L_mul, I_mul, sub_L, L_sub, I_sub, div_L, rem_L]); done) | ((try simp (disch := omega) only [L_le, le_L, L_lt, lt_L, eq_L, L_eq, I_le, I_lt, I_eq, I_ni, add_L, L_add, I_add, mul_L, L_mul, I_mul, sub_L, L_sub, I_sub, div_L, rem_L]); omega))) ⟨nn_of rfl (by rw [dk]), brT ?_ ?_⟩⟩
  · rw [dk]; show I k < I m; (first | omega | ((try simp (disch := omega) only [L_le, le_L, L_lt, lt_L, eq_L, L_eq, I_le, I_lt, I_eq, I_ni, add_L, L_add, I_add, mul_L, L_mul, I_mul, sub_L, L_sub, I_sub, div_L, rem_L]); done) | ((try simp (disch := omega) only [L_le, le_L, L_lt, lt_L, eq_L, L_eq, I_le, I_lt, I_eq, I_ni, add_L, L_add, I_add, mul_L, L_mul, I_mul, sub_L, L_sub, I_sub, div_L, rem_L]); omega))
  rintro _ rfl _ rfl
  refine ⟨ix_of (a := d) rfl (by exact dk) (by omega) (by omega), ?_⟩
  rw [I_ni (by omega)]
  have hel : h4.ar d k = some (x k) := X.el k hk
  show Q (h4.ar d k) _
  rw [hel]
  (try simp (disch := omega) only [L_le, le_L, L_lt, lt_L, eq_L, L_eq, I_le, I_lt, I_eq, I_ni, add_L, L_add, I_add, mul_L, L_mul, I_mul, sub_L, L_sub, I_sub, div_L, rem_L])
  refine hQ _ ?_ ?_ rfl rfl rfl
  · refine Fr.sfi (h := h4.sfi 2400 i (I (k + 1))) ?_ _ (fun _ => ⟨rfl, .inr rfl⟩)
    exact (Fr.refl _).sfi _ (fun _ => ⟨rfl, .inl rfl⟩)
  · refine ⟨T.k, T.l, T.a0, ?_, ?_⟩
    · rw [pc_fi, sfi_ne _ _ _ _ (by decide), sfi_same]
    · rw [pc_fi, sfi_ne _ _ _ _ (by decide), sfi_ne _ _ _ _ (by decide), sfi_ne _ _ _ _ (by decide), sfi_ne _ _ _ _ (by decide)]; exact T.m
end
section
variable {G : Gv} {h : AH} {L : GA}

/-- what closing writes. -/
def WC (L : GA) (G : Gv) (o : Nat) : Nat → Nat → Prop := fun f b =>
  (f = 0 ∧ ((∃ s, s < G.nS ∧ (b = L.si s ∨ b = L.sv s)) ∨ ∃ p, p < G.nP ∧ b = L.pp p)) ∨ f = 605 ∨ f = 706 ∨ ((f = 402 ∨ f = 403) ∧ b = o)

/-- a grammar's own object. -/
def GO (c : HC) (L : GA) (G : Gv) (o : Nat) : Prop :=
  ((c.kd o).1 = 4) ∧
  (o < c.sz) ∧
  (c.fr 400 o = some L.sl) ∧
  (Ls c L.sl L.sd L.sm G.nS L.sa) ∧
  (c.fr 401 o = some L.pl) ∧
  (Ls c L.pl L.pd L.pm G.nP L.pa) ∧
  (∀ p, p < G.nP → c.fr 705 (L.pa p) = some (L.pp p)) ∧
  (∀ p, p < G.nP → c.kd (L.pp p) = (40, 104)) ∧
  (∀ p, p < G.nP → L.pp p < c.sz)
theorem GO.k {c : HC} {L : GA} {G : Gv} {o : Nat} (h9 : GO c L G o) : (c.kd o).1 = 4 := h9.1
theorem GO.l {c : HC} {L : GA} {G : Gv} {o : Nat} (h9 : GO c L G o) : o < c.sz := h9.2.1
theorem GO.s1 {c : HC} {L : GA} {G : Gv} {o : Nat} (h9 : GO c L G o) : c.fr 400 o = some L.sl := h9.2.2.1
theorem GO.s2 {c : HC} {L : GA} {G : Gv} {o : Nat} (h9 : GO c L G o) : Ls c L.sl L.sd L.sm G.nS L.sa := h9.2.2.2.1
theorem GO.p1 {c : HC} {L : GA} {G : Gv} {o : Nat} (h9 : GO c L G o) : c.fr 401 o = some L.pl := h9.2.2.2.2.1
theorem GO.p2 {c : HC} {L : GA} {G : Gv} {o : Nat} (h9 : GO c L G o) : Ls c L.pl L.pd L.pm G.nP L.pa := h9.2.2.2.2.2.1
theorem GO.q1 {c : HC} {L : GA} {G : Gv} {o : Nat} (h9 : GO c L G o) : ∀ p, p < G.nP → c.fr 705 (L.pa p) = some (L.pp p) := h9.2.2.2.2.2.2.1
theorem GO.q2 {c : HC} {L : GA} {G : Gv} {o : Nat} (h9 : GO c L G o) : ∀ p, p < G.nP → c.kd (L.pp p) = (40, 104) := h9.2.2.2.2.2.2.2.1
theorem GO.q3 {c : HC} {L : GA} {G : Gv} {o : Nat} (h9 : GO c L G o) : ∀ p, p < G.nP → L.pp p < c.sz := h9.2.2.2.2.2.2.2.2

def GX (c : HC) (L : GA) (G : Gv) (o : Nat) : Prop :=
  (GS c L G) ∧
  (GO c L G o)
theorem GX.S {c : HC} {L : GA} {G : Gv} {o : Nat} (h9 : GX c L G o) : GS c L G := h9.1
theorem GX.O {c : HC} {L : GA} {G : Gv} {o : Nat} (h9 : GX c L G o) : GO c L G o := h9.2

theorem WC.nof {o f a : Nat} (h0 : f ≠ 0) (h1 : f ≠ 605) (h2 : f ≠ 706) (h3 : f ≠ 402) (h4 : f ≠ 403) : ¬ WC L G o f a := by
  rintro (h | h | h | h)
  · exact h0 h.1
  · exact h1 h
  · exact h2 h
  · rcases h.1 with h | h
    · exact h3 h
    · exact h4 h
theorem WC.noa {c : HC} {o a t n : Nat} (X : GX c L G o) (hk : c.kd a = (t, n)) (h8 : (t, n) ≠ (40, 8)) (h9 : (t, n) ≠ (40, 104)) : ¬ WC L G o 0 a := by
  rintro (h | h | h | h)
  · rcases h.2 with ⟨s, hs, rfl | rfl⟩ | ⟨p, hp, rfl⟩
    · exact h8 (hk.symm.trans (X.S.sy s hs).i2)
    · exact h8 (hk.symm.trans (X.S.sy s hs).v2)
    · exact h9 (hk.symm.trans (X.O.q2 p hp))
  · exact absurd h (by decide)
  · exact absurd h (by decide)
  · rcases h.1 with h | h <;> exact absurd h (by decide)

theorem GX.keep {c c' : HC} {o : Nat} (X : GX c L G o) (F : Fr (WC L G o) c c') : GX c' L G o := by
  have n44 : ∀ m, ((44 : Nat), m) ≠ (40, 8) ∧ ((44 : Nat), m) ≠ (40, 104) := fun m => ⟨fun e => absurd (Prod.mk.inj e).1 (by decide), fun e => absurd (Prod.mk.inj e).1 (by decide)⟩
  refine ⟨?_, ?_⟩
  · refine X.S.keep F ⟨fun a => ⟨WC.nof (by decide) (by decide) (by decide) (by decide) (by decide), WC.nof (by decide) (by decide) (by decide) (by decide) (by decide), WC.nof (by decide) (by decide) (by decide) (by decide) (by decide), WC.nof (by decide) (by decide) (by decide) (by decide) (by decide), WC.nof (by decide) (by decide) (by decide) (by decide) (by decide), WC.nof (by decide) (by decide) (by decide) (by decide) (by decide)⟩,
      fun s hs => WC.nof (by decide) (by decide) (by decide) (by decide) (by decide), fun p hp => ⟨WC.nof (by decide) (by decide) (by decide) (by decide) (by decide), WC.nof (by decide) (by decide) (by decide) (by decide) (by decide), WC.noa X (X.S.pr p hp).sl.dk (n44 _).1 (n44 _).2, WC.noa X (X.S.pr p hp).k2 (by decide) (by decide)⟩⟩
  · exact ⟨by rw [F.kd _ X.O.l]; exact X.O.k, Nat.lt_of_lt_of_le X.O.l F.sz, by rw [F.fr _ _ X.O.l (WC.nof (by decide) (by decide) (by decide) (by decide) (by decide))]; exact X.O.s1,
      X.O.s2.keep F (WC.nof (by decide) (by decide) (by decide) (by decide) (by decide)) (WC.nof (by decide) (by decide) (by decide) (by decide) (by decide)) (WC.noa X X.O.s2.dk (n44 _).1 (n44 _).2),
      by rw [F.fr _ _ X.O.l (WC.nof (by decide) (by decide) (by decide) (by decide) (by decide))]; exact X.O.p1,
      X.O.p2.keep F (WC.nof (by decide) (by decide) (by decide) (by decide) (by decide)) (WC.nof (by decide) (by decide) (by decide) (by decide) (by decide)) (WC.noa X X.O.p2.dk (n44 _).1 (n44 _).2),
      fun p hp => by rw [F.fr _ _ (X.S.pr p hp).l (WC.nof (by decide) (by decide) (by decide) (by decide) (by decide))]; exact X.O.q1 p hp,
      fun p hp => by rw [F.kd _ (X.O.q3 p hp)]; exact X.O.q2 p hp, fun p hp => Nat.lt_of_lt_of_le (X.O.q3 p hp) F.sz⟩

/-- what stands when a grammar is closed. -/
def GF (c : HC) (L : GA) (G : Gv) (o : Nat) (ind : Nat → Int32) : Prop :=
  (Ind c L G ind) ∧
  (∀ s, s < G.nS → Vis c L G ind s) ∧
  (c.fi 403 o = oI (G.cirP ind)) ∧
  (c.fi 402 o = oI (G.blkP ind)) ∧
  (G.blkP ind = none → ∀ p, p < G.nP → ∃ x, G.IsPl ind p x ∧ x.2.2.2.length ≤ 68 ∧ c.fi 706 (L.pa p) = I x.2.2.2.length ∧ ∀ i, i < x.2.2.2.length → c.ai (L.pp p) i = x.2.2.2.getD i 0)
theorem GF.di {c : HC} {L : GA} {G : Gv} {o : Nat} {ind : Nat → Int32} (h9 : GF c L G o ind) : Ind c L G ind := h9.1
theorem GF.vis {c : HC} {L : GA} {G : Gv} {o : Nat} {ind : Nat → Int32} (h9 : GF c L G o ind) : ∀ s, s < G.nS → Vis c L G ind s := h9.2.1
theorem GF.ci {c : HC} {L : GA} {G : Gv} {o : Nat} {ind : Nat → Int32} (h9 : GF c L G o ind) : c.fi 403 o = oI (G.cirP ind) := h9.2.2.1
theorem GF.bl {c : HC} {L : GA} {G : Gv} {o : Nat} {ind : Nat → Int32} (h9 : GF c L G o ind) : c.fi 402 o = oI (G.blkP ind) := h9.2.2.2.1
theorem GF.pl {c : HC} {L : GA} {G : Gv} {o : Nat} {ind : Nat → Int32} (h9 : GF c L G o ind) : G.blkP ind = none → ∀ p, p < G.nP → ∃ x, G.IsPl ind p x ∧ x.2.2.2.length ≤ 68 ∧ c.fi 706 (L.pa p) = I x.2.2.2.length ∧ ∀ i, i < x.2.2.2.length → c.ai (L.pp p) i = x.2.2.2.getD i 0 := h9.2.2.2.2

/-- the first from k on. -/
def IsF (P : Nat → Bool) (n k : Nat) (y : Option Nat) : Prop := match y with
  | some p => k ≤ p ∧ p < n ∧ P p = true ∧ ∀ j, k ≤ j → j < p → P j = false
  | none => ∀ j, k ≤ j → j < n → P j = false
theorem IsF.zero {P n y} (h : IsF P n 0 y) : fstN P n = y := by
  cases y with
  | none => exact fstN_none.2 (fun j hj => h j (Nat.zero_le _) hj)
  | some p => exact fstN_some.2 ⟨h.2.1, h.2.2.1, fun j hj => h.2.2.2 j (Nat.zero_le _) hj⟩
theorem IsF.hit {P : Nat → Bool} {n k : Nat} (hk : k < n) (hp : P k = true) : IsF P n k (some k) := ⟨Nat.le_refl _, hk, hp, fun j h1 h2 => by omega⟩
theorem IsF.miss {P : Nat → Bool} {n k : Nat} {y} (h : IsF P n (k + 1) y) (hp : P k = false) : IsF P n k y := by
  cases y with
  | none =>
    intro j h1 h2
    by_cases e : j = k
    · rw [e]; exact hp
    · exact h j (by omega) h2
  | some p =>
    refine ⟨by have := h.1; omega, h.2.1, h.2.2.1, fun j h1 h2 => ?_⟩
    by_cases e : j = k
    · rw [e]; exact hp
    · exact h.2.2.2 j (by omega) h2

theorem sub1 {k : Nat} (hk : k < 100) : (I k - 1 < 0) ↔ k = 0 := by
  by_cases e : k = 0
  · subst e; simp; decide
  · rw [show I k - 1 = I (k - 1) from I_sub (a := k) (b := 1) (by omega)]
    constructor
    · intro hh; exact absurd hh (I_nonneg (by omega))
    · intro hh; exact absurd hh e
theorem add_neg1 (x : Int32) : x + (-1) = x - 1 := (Int32.sub_eq_add_neg x 1).symm
theorem oI_lt0 {x : Option Nat} (h : ∀ k, x = some k → k < 2147483648) : oI x < 0 ↔ x = none := by
  cases x with
  | none => simp [oI]
  | some k =>
    constructor
    · intro hh; exact absurd hh (I_nonneg (h k rfl))
    · intro hh; exact absurd hh (by simp)
end
section
variable {G : Gv} {h : AH} {L : GA}

theorem mul_step {m P : Nat} (h : m ≤ 512) : (513 - m) * P = (512 - m) * P + P := by
  rw [show 513 - m = (512 - m) + 1 by omega, Nat.succ_mul]
theorem mul_mono {m m' P : Nat} (h : m < m') : (513 - m') * P ≤ (512 - m) * P := Nat.mul_le_mul_right _ (by omega)

/-- what closing costs. -/
def cc4 (G : Gv) : Nat := 1 + 2 * G.nP
def cs4 (G : Gv) : Nat := 4 + 8 * G.nP
def cc3 (G : Gv) : Nat := 2 * G.nP + cc4 G
def cs3 (G : Gv) : Nat := 64 * G.nP + cs4 G
def cc2 (G : Gv) : Nat := 1 + G.nS + cc3 G
def cs2 (G : Gv) : Nat := 4 + 8 * G.nS + cs3 G
def ccl (G : Gv) : Nat := 513 * (1 + G.nP) + cc2 G
def csl (G : Gv) : Nat := 513 * (4 + 32 * G.nP) + cs2 G

theorem Ind.zeroB (W : G.WF) {ind : Nat → Int32} (hI : G.IsInd ind) {s a : Nat} (hs : s < G.nS) (h1 : G.cnt s ≤ a) (h2 : a < 8) : ind (8 * s + a) = 0 := by
  obtain ⟨hx, n, rfl⟩ := hI
  clear hx
  have hN : ∀ p rows ind m, p < G.nP → ind (8 * s + a) = 0 → G.indN p rows m ind (8 * s + a) = 0 := by
    intro p rows ind m hp h0
    induction m with
    | zero => exact h0
    | succ m ih =>
      simp only [Gv.indN]
      split
      · next hc =>
        have h3 := hc.2.2
        have h4 := W.cnt8 (W.ocS hp hc)
        rw [updN_ne _ _ (by
          intro e
          have : s = G.sy p (m / 8) := by omega
          rw [← this] at h3
          omega)]; exact ih
      · exact ih
  have hR : ∀ ind n, n ≤ G.nP → ind (8 * s + a) = 0 → G.indR ind n (8 * s + a) = 0 := by
    intro ind n hnp h0
    induction n with
    | zero => exact h0
    | succ n ih => exact hN n _ _ 32 hnp (ih (by omega))
  induction n with
  | zero => rfl
  | succ k ih => exact hR _ _ (Nat.le_refl _) ih

theorem px_pinit {o : Nat} {r : Option Nat} (hk : (h.kd o).1 = 13) (ho : o < h.sz) (hr : 1 ≤ h.rc) (hs : 4 ≤ h.rs) {Q : AH → Prop}
    (hQ : ∀ h', Fr (fun f b => b = o) h.c h'.c → (h'.kd o).1 = 13 → h'.fr 1300 o = r → h'.fi 1302 o = 1 → h'.fr 1303 o = some h.sz → h'.kd h.sz = (40, 4) → h'.sz = h.sz + 1 → (∀ i, h'.ai h.sz i = 0) → Q h') : wp_X13_init o r h Q := by
  unfold wp_X13_init
  refine ⟨nn_of rfl hk, ?_⟩
  rintro _ rfl
  refine ⟨⟨by decide, by decide, hr, hs⟩, ?_⟩
  rintro _ rfl
  have hne : o ≠ (h.sfi 1302 o 1).sz := by show o ≠ h.sz; omega
  have k2 : (((h.sfi 1302 o 1).new 40 (ni 4) (ni 4)).kd o).1 = 13 := by rw [new_kd, if_neg hne]; exact hk
  refine ⟨nn_of rfl k2, ?_⟩
  rintro _ rfl _ rfl
  have F1 : Fr (fun f b => b = o) h.c ((h.sfi 1302 o 1).new 40 (ni 4) (ni 4)).c := (Fr.sfi (W := fun f b => b = o) (Fr.refl h.c) _ (fun _ => rfl)).new _ _ _
  refine hQ _ ((F1.sfr _ (fun _ => rfl)).sfr _ (fun _ => rfl)) k2 (sfr_same _ _ _ _) ?_ ?_ ?_ rfl ?_
  · show ((h.sfi 1302 o 1).new 40 (ni 4) (ni 4)).fi 1302 o = 1
    rw [new_fi, if_neg hne, sfi_same]
  · rw [sfr_ne _ _ _ _ (by decide), sfr_same]; rfl
  · show ((h.sfi 1302 o 1).new 40 (ni 4) (ni 4)).kd h.sz = _
    rw [new_kd]; exact if_pos rfl
  · intro i
    show ((h.sfi 1302 o 1).new 40 (ni 4) (ni 4)).ai h.sz i = 0
    rw [new_ai]
    have : (if h.sz = (h.sfi 1302 o 1).sz then (fun _ => (0 : Int32)) else (h.sfi 1302 o 1).ai h.sz) i = 0 := by rw [if_pos (show h.sz = (h.sfi 1302 o 1).sz from rfl)]
    exact this

theorem fself_congr' {r r' : Nat → Int32} (h : ∀ o, o < 32 → r o = r' o) : fself r = fself r' := by
  unfold fself
  cases h1 : fstN (fun o => bt (r' o) o) 32 with
  | none =>
    rw [fstN_none] at h1 ⊢
    intro k hk; rw [h k hk]; exact h1 k hk
  | some k =>
    rw [fstN_some] at h1 ⊢
    refine ⟨h1.1, by rw [h k h1.1]; exact h1.2.1, fun j hj => by rw [h j (by omega)]; exact h1.2.2 j hj⟩

/-- rows, closed, the first that hangs on itself. -/
theorem px_rco {T : AH} (W : G.WF) (S : GS T.c L G) {ind : Nat → Int32} (v : Bool) (hI : Ind T.c L G ind) {p : Nat} (hp : p < G.nP)
    (hV : v = true → ∀ k, k ≤ G.kn p → G.VB ind (G.sy p k) ∧ ∀ a, a < G.cnt (G.sy p k) → T.c.ai (L.sv (G.sy p k)) a = I (G.vo ind (G.sy p k) a)) (hr : 1 ≤ T.rc) (hs : 32 ≤ T.rs) {C : Int32 → AH → Prop}
    (hC : ∀ h', Fr W0 T.c h'.c → h'.rc = T.rc - 1 → h'.rs = T.rs - 32 → C (oI (fself (clo (G.rowF ind true v p)))) h') :
    cl T fun mc ms => wp_X6_rows (L.pa p) 1 (if v then 1 else 0) (T.srm mc ms) fun r86 h87 => ∀ h88, h88 = h87.srm (T.rc - mc) (T.rs - ms) →
      wp_X0_closed r86 (h88.srm 0 0) fun r92 h93 => ∀ h94, h94 = h93.srm h88.rc h88.rs →
      wp_X0_onItself r92 (h94.srm 0 0) fun r95 h96 => ∀ h97, h97 = h96.srm h94.rc h94.rs → C r95 h97 := by
  refine ⟨1, 32, ⟨hr, hs⟩, ?_⟩
  refine px_rows (h := T.srm 1 32) W S (ind := ind) true v (fun _ => hI) hp hV (Nat.le_refl _) (Nat.le_refl _) ?_
  intro h3 F3 z3 c3 s3 k3 r3
  rintro _ rfl
  refine px_closed (h := (h3.srm (T.rc - 1) (T.rs - 32)).srm 0 0) (a := T.sz) (n := 32) (r := h3.ai T.sz) k3 (Nat.le_refl _) (by decide) rfl ?_
  intro h9 F9 z9 c9 s9 r9
  rintro _ rfl
  have k9 : h9.kd T.sz = (40, 32) := by
    have : h9.c.kd T.sz = h3.c.kd T.sz := F9.kd T.sz (by show T.sz < h3.sz; rw [z3]; exact Nat.lt_succ_self _)
    rw [← k3]; exact this
  refine px_onItself (h := (h9.srm (T.rc - 1) (T.rs - 32)).srm 0 0) (a := T.sz) (n := 32) k9 (Nat.le_refl _) (by decide) r9 ?_
  rintro _ rfl
  have F9' : Fr W0 T.c h9.c := by
    refine F3.trans' F9 (fun f a ha hw => ?_)
    have := hw.2
    have ha' : a < T.sz := ha
    omega
  have e : fself (clo (h3.ai T.sz)) = fself (clo (G.rowF ind true v p)) := fself_congr' (fun x hx => clo_congr (fun y hy => r3 y hy) hx)
  rw [e]
  exact hC _ F9' rfl rfl

theorem noSelf' (W : G.WF) {ind : Nat → Int32} {p : Nat} (hp : p < G.nP) (h : fself (clo (G.rI ind p)) = none) {k : Nat} (hk : k ≤ G.kn p) : G.self ind (G.sy p k) = false := by
  rw [Gv.self_false]
  intro a ha
  have h3 := W.kn p hp
  have hc := W.cnt8 (W.sy p k hp hk)
  have ea : (8 * k + a) / 8 = k ∧ (8 * k + a) % 8 = a := by omega
  have oa : G.oc p (8 * k + a) := ⟨by omega, by omega, by rw [ea.1, ea.2]; exact ha⟩
  cases hb : bt (ind (8 * G.sy p k + a)) a with
  | false => rfl
  | true =>
    have r1 := Gv.rI_bt (ind := ind) oa (k := a) (by omega) (by rw [ea.1, ea.2]; exact hb)
    rw [ea.1] at r1
    have := (clo_bt (G.rI ind p) oa.1).2 ⟨_, r1, Rch.refl _⟩
    have h' := fstN_none.1 h (8 * k + a) oa.1
    simp only [this] at h'
    exact absurd h' (by simp)

theorem px_closes (W : G.WF) (D : GD L G) {o : Nat} (X : GX h.c L G o) (hI0 : Ind h.c L G (fun _ => 0)) (hb : h.fi 402 o = -1) (hc : h.fi 403 o = -1) (hrc : ccl G ≤ h.rc) (hrs : csl G ≤ h.rs)
    {Q : AH → Prop} (hQ : ∀ h' ind, Fr (WC L G o) h.c h'.c → G.IsInd ind → GF h'.c L G o ind → Q h') : wp_X3_closes o h Q := by
  have hP := W.nP
  have hS := W.nS
  have wi : ∀ f b, WI L G f b → WC L G o f b := fun f b hw => .inl ⟨hw.1, .inl (by obtain ⟨s, hs, e⟩ := hw.2; exact ⟨s, hs, .inl e⟩)⟩
  have wi2 : ∀ b, ¬ WI L G 402 b ∧ ¬ WI L G 403 b ∧ ¬ WI L G 2403 b ∧ ¬ WI L G 2400 b ∧ ¬ WI L G 2402 b ∧ ¬ WI L G 2300 b := fun b => ⟨fun hw => absurd hw.1 (by decide), fun hw => absurd hw.1 (by decide), fun hw => absurd hw.1 (by decide), fun hw => absurd hw.1 (by decide), fun hw => absurd hw.1 (by decide), fun hw => absurd hw.1 (by decide)⟩
  unfold wp_X3_closes
  -- rounds
  refine ⟨fun n s T => ∃ k, Fr (WC L G o) h.c T.c ∧ T.fi 402 o = -1 ∧ T.fi 403 o = -1 ∧ Ind T.c L G (G.indK k) ∧
    ((s = 0 ∧ G.indR (G.indK k) G.nP = G.indK k ∧ cc2 G ≤ T.rc ∧ cs2 G ≤ T.rs) ∨
     (s = 1 ∧ n = 513 - mb (G.indK k) ∧ (513 - mb (G.indK k)) * (1 + G.nP) + cc2 G ≤ T.rc ∧ (513 - mb (G.indK k)) * (4 + 32 * G.nP) + cs2 G ≤ T.rs)), ?_, ?_⟩
  · have e0 : mb (G.indK 0) = 0 := by
      show mb (fun _ => 0) = 0
      unfold mb
      rw [List.filter_eq_nil_iff.2 (by intro x _; simp [bt_zero])]; rfl
    refine ⟨513 - mb (G.indK 0), 0, ?_⟩
    refine ⟨Fr.refl _, ?_⟩
    refine ⟨hb, ?_⟩
    refine ⟨hc, ?_⟩
    refine ⟨hI0, ?_⟩
    refine .inr ⟨rfl, ?_⟩
    refine ⟨rfl, ?_, ?_⟩
    · rw [e0]; exact hrc
    · rw [e0]; exact hrs
  rintro n s T ⟨k, F, e402, e403, hInd, hs⟩
  have XT := X.keep F
  rcases hs with ⟨hs1, hfix, rc2, rs2⟩ | ⟨hs1, hn1, rc1, rs1⟩
  · subst hs1
    -- all is induced
    have hI : G.IsInd (G.indK k) := ⟨hfix, k, rfl⟩
    generalize hind : G.indK k = ind at hI hInd
    refine brT rfl ⟨nn_of rfl XT.O.k, ?_⟩
    have s1T : T.fr 400 o = some L.sl := XT.O.s1
    rw [s1T, adr_some]
    refine ⟨nn_of rfl XT.O.s2.k, 1, 4, ⟨by unfold cc2 at rc2; omega, by unfold cs2 at rs2; omega⟩, ?_⟩
    refine pc_iterator (h := T.srm 1 4) XT.O.s2 (Nat.le_refl _) (Nat.le_refl _) ?_
    intro h7 F7 I7 z7 _ _
    rintro _ rfl
    -- orders
    have wo : ∀ s, s < G.nS → ∀ f b, WO L s f b → WC L G o f b := by
      rintro s hs f b (⟨rfl, rfl⟩ | ⟨rfl, rfl⟩)
      · exact .inr (.inl rfl)
      · exact .inl ⟨rfl, .inl ⟨s, hs, .inr rfl⟩⟩
    refine xlp_cnt G.nS (fun m _ U => Fr (WC L G o) h.c U.c ∧ U.fi 402 o = -1 ∧ U.fi 403 o = -1 ∧ Ind U.c L G ind ∧ It U.c T.sz L.sl m ∧ (∀ s, s < m → Vis U.c L G ind s) ∧ G.nS - m + cc3 G ≤ U.rc ∧ 8 * (G.nS - m) + cs3 G ≤ U.rs) ?_ ?_
    · have F7' : Fr (WC L G o) h.c h7.c := F.trans (F7.mono (fun _ _ _ hh => hh.elim))
      have o7 : h7.fi 402 o = -1 := (F7.fi 402 o XT.O.l id).trans e402
      have o7' : h7.fi 403 o = -1 := (F7.fi 403 o XT.O.l id).trans e403
      refine ⟨F7', o7, o7', Ind.keep XT.S hInd F7 (fun _ _ => id), I7, fun s hs => by omega, ?_, ?_⟩
      · show _ ≤ T.rc - 1; unfold cc2 at rc2; omega
      · show _ ≤ T.rs - 4; unfold cs2 at rs2; omega
    rintro m _ U K hm ⟨FU, u402, u403, UI, UIt, UV, urc, urs⟩ hK
    have XU := X.keep FU
    have tsl : L.sl < T.sz := XT.O.s2.al
    have hnesl : T.sz ≠ L.sl := by omega
    refine ⟨fun r U' => r = (if m = G.nS then 0 else 1) ∧ U' = U, .inl ⟨nn_of rfl UIt.k, ?_⟩, ?_⟩
    · exact pc_hasNext (h := U.srm 0 0) XU.O.s2 UIt hm (pu ⟨rfl, rfl⟩)
    rintro r U' ⟨rfl, rfl⟩
    by_cases em : m = G.nS
    · -- circles, blocks
      subst em
      rw [if_pos rfl]
      refine brT rfl ⟨nn_of rfl XU.O.k, ?_⟩
      have p1U : U'.fr 401 o = some L.pl := XU.O.p1
      rw [p1U, adr_some]
      refine ⟨nn_of rfl XU.O.p2.k, ?_⟩
      refine pc_size (h := U'.srm 0 0) XU.O.p2 (pu ?_)
      have hVall := UV
      refine xlp_cnt G.nP (fun m s V => s = I (G.nP - m) - 1 ∧ Fr (WC L G o) h.c V.c ∧ Ind V.c L G ind ∧ (∀ s, s < G.nS → Vis V.c L G ind s) ∧
        (∃ y, V.fi 403 o = oI y ∧ IsF (fun p => (fself (clo (G.rI ind p))).isSome) G.nP (G.nP - m) y) ∧ (∃ y, V.fi 402 o = oI y ∧ IsF (fun p => (fself (clo (G.rI ind p))).isSome || (fself (clo (G.rV ind p))).isSome) G.nP (G.nP - m) y) ∧
        2 * (G.nP - m) + cc4 G ≤ V.rc ∧ 64 * (G.nP - m) + cs4 G ≤ V.rs) ?_ ?_
      · refine ⟨rfl, FU, UI, UV, ⟨none, u403, fun j h1 h2 => by omega⟩, ⟨none, u402, fun j h1 h2 => by omega⟩, ?_, ?_⟩
        · unfold cc3 at urc; omega
        · unfold cs3 at urs; omega
      rintro m s V K2 hm2 ⟨rfl, FV, VI, VV, ⟨yc, v403, hyc⟩, ⟨yb, v402, hyb⟩, vrc, vrs⟩ hK2
      have XV := X.keep FV
      by_cases em : m = G.nP
      · -- plans
        subst em
        rw [show G.nP - G.nP = 0 by omega] at hyc hyb vrc vrs ⊢
        have ec := hyc.zero
        have eb := hyb.zero
        refine brT ((sub1 (by omega)).2 rfl) ⟨nn_of rfl XV.O.k, ?_⟩
        have hyb' : G.blkP ind = yb := eb
        have hyc' : G.cirP ind = yc := ec
        rw [v402]
        cases hyb2 : yb with
        | some q =>
          subst hyb2
          have hq : q < G.nP := hyb.2.1
          refine brT (by show (0 : Int32) ≤ I q; exact (L_le 0 (by decide) (by omega)).2 (Nat.zero_le _)) (hQ V ind FV hI ⟨VI, VV, by rw [hyc']; exact v403, by rw [hyb']; exact v402, fun hh => absurd (hyb'.symm.trans hh) (by simp)⟩)
        | none =>
          subst hyb2
          refine brF (by decide) ?_
          have p1V : V.fr 401 o = some L.pl := XV.O.p1
          rw [p1V, adr_some]
          have hns : ∀ p, p < G.nP → fself (clo (G.rI ind p)) = none := by
            intro p hp
            have := hyb p (Nat.zero_le _) hp
            simp only [Bool.or_eq_false_iff] at this
            exact Option.isNone_iff_eq_none.1 (by have := this.1; revert this; cases fself (clo (G.rI ind p)) <;> simp)
          have hpv : ∀ c' p, p < G.nP → (∀ s, s < G.nS → Vis c' L G ind s) → PlV c' L G ind p := by
            intro c' p hp hv
            have hn : ∀ k, k ≤ G.kn p → G.self ind (G.sy p k) = false := fun k hk => noSelf' W hp (hns p hp) hk
            refine ⟨fun k hk => hI.vb W (W.sy p k hp hk) (hn k hk), fun k hk => ?_, fun k hk a ha => (hv _ (W.sy p k hp hk)).v (hn k hk) a ha⟩
            have := (hv _ (W.sy p k hp hk)).n
            rw [hn k hk] at this
            exact this
          refine ⟨nn_of rfl XV.O.p2.k, 1, 4, ⟨by unfold cc4 at vrc; omega, by unfold cs4 at vrs; omega⟩, ?_⟩
          refine pc_iterator (h := V.srm 1 4) XV.O.p2 (Nat.le_refl _) (Nat.le_refl _) ?_
          intro h31 F31 I31 z31 _ _
          rintro _ rfl
          have tpl : L.pl < V.sz := XV.O.p2.al
          refine xlp_cnt G.nP (fun m _ U => Fr (WC L G o) h.c U.c ∧ U.fi 402 o = -1 ∧ U.fi 403 o = oI yc ∧ Ind U.c L G ind ∧ (∀ s, s < G.nS → Vis U.c L G ind s) ∧ It U.c V.sz L.pl m ∧
            (∀ p, p < m → ∃ x, G.IsPl ind p x ∧ x.2.2.2.length ≤ 68 ∧ U.fi 706 (L.pa p) = I x.2.2.2.length ∧ ∀ i, i < x.2.2.2.length → U.ai (L.pp p) i = x.2.2.2.getD i 0) ∧ 2 * (G.nP - m) ≤ U.rc ∧ 8 * (G.nP - m) ≤ U.rs) ?_ ?_
          · have F31' : Fr (WC L G o) h.c h31.c := FV.trans (F31.mono (fun _ _ _ hh => hh.elim))
            refine ⟨F31', (F31.fi 402 o XV.O.l id).trans v402, (F31.fi 403 o XV.O.l id).trans v403, Ind.keep XV.S VI F31 (fun _ _ => id), fun s hs => (VV s hs).keep (XV.S.sy s hs) F31 id id, I31, fun p hp => by omega, ?_, ?_⟩
            · show _ ≤ V.rc - 1; unfold cc4 at vrc; omega
            · show _ ≤ V.rs - 4; unfold cs4 at vrs; omega
          rintro m _ U2 K3 hm3 ⟨FU2, w402, w403, WI2, WV2, WIt, WP2, wrc, wrs⟩ hK3
          have XU2 := X.keep FU2
          refine ⟨fun r U' => r = (if m = G.nP then 0 else 1) ∧ U' = U2, .inl ⟨nn_of rfl WIt.k, ?_⟩, ?_⟩
          · exact pc_hasNext (h := U2.srm 0 0) XU2.O.p2 WIt hm3 (pu ⟨rfl, rfl⟩)
          rintro r U' ⟨rfl, rfl⟩
          by_cases em : m = G.nP
          · subst em
            rw [if_pos rfl]
            exact brT rfl (hQ U' ind FU2 hI ⟨WI2, WV2, by rw [hyc']; exact w403, by rw [hyb']; exact w402, fun _ => WP2⟩)
          rw [if_neg em]
          have hpm : m < G.nP := by omega
          refine brF (by decide) ?_
          refine ⟨fun r U3 => r = some (L.pa m) ∧ Fr (fun f b => b = V.sz ∧ (f = 2400 ∨ f = 2401)) U'.c U3.c ∧ It U3.c V.sz L.pl (m + 1) ∧ U3.rc = U'.rc ∧ U3.rs = U'.rs ∧ U3.sz = U'.sz, .inl ⟨nn_of rfl WIt.k, 0, 0, ⟨Nat.zero_le _, Nat.zero_le _⟩, ?_⟩, ?_⟩
          · refine pc_next (h := U'.srm 0 0) XU2.O.p2 WIt hpm (by omega) ?_
            intro h' F' It' _ _ z'
            rintro _ rfl
            exact ⟨rfl, F', It', rfl, rfl, z'⟩
          rintro r U3 ⟨rfl, F3, It3, rc3, rs3, z3⟩
          have hzV : h.c.sz ≤ V.c.sz := FV.sz
          have hzU : V.sz < U'.sz := WIt.l
          have F3' : Fr (WC L G o) h.c U3.c := FU2.trans' F3 (fun f a ha hw => by
            have h1 := hw.1
            have h2 : h.sz ≤ V.sz := hzV
            have h3 : a < h.sz := ha
            omega)
          have X3 := X.keep F3'
          refine ⟨.inr (nn_of rfl (X3.S.pr m hpm).k), ⟨by rw [rc3]; omega, by rw [rs3]; omega⟩, ?_⟩
          rintro _ rfl
          -- a planner
          refine ⟨1, 4, ⟨by rw [new_rc, rc3]; omega, by rw [new_rs, rs3]; omega⟩, ?_⟩
          have F4 : Fr (WC L G o) h.c (U3.new 13 0 4).c := F3'.new _ _ _
          have hz3 : h.sz ≤ U3.sz := F3'.sz
          refine px_pinit (h := (U3.new 13 0 4).srm 1 4) (by show ((U3.new 13 0 4).kd U3.sz).1 = 13; rw [new_kd, if_pos rfl]) (Nat.lt_succ_self _) (Nat.le_refl _) (Nat.le_refl _) ?_
          intro h49 F49 k49 r49 v49 w49 kw49 z49 a49
          rintro _ rfl
          have F49' : Fr (WC L G o) h.c h49.c := F4.trans' F49 (fun f a ha hw => by
            have h3 : a < h.sz := ha
            have h4 : a = U3.sz := hw
            omega)
          have X49 := X.keep F49'
          have z3' : U3.sz = U'.sz := z3
          have F03 : Fr (fun f b => b = U3.sz) U3.c h49.c := (Fr.new (W := fun f b => b = U3.sz) (Fr.refl U3.c) 13 0 4).trans F49
          have F02 : Fr (fun f b => b = V.sz ∨ b = U3.sz) U'.c h49.c := (F3.mono (fun f a _ hw => Or.inl hw.1)).trans' F03 (fun f a _ hw => Or.inr hw)
          have hzV' : h.sz ≤ V.sz := hzV
          have old : ∀ a, a < h.sz → ¬ (a = V.sz ∨ a = U3.sz) := by rintro a ha (e | e) <;> omega
          have V49 : ∀ s, s < G.nS → Vis h49.c L G ind s := fun s hs => (WV2 s hs).keep (XU2.S.sy s hs) F02 (old _ (X.S.sy s hs).l) (old _ (X.S.sy s hs).v3)
          refine ⟨nn_of rfl k49, ?_⟩
          have hw49 : h49.fr 1303 U3.sz = some (U3.sz + 1) := w49
          have z49' : h49.sz = U3.sz + 1 + 1 := z49
          have PD : PlD L G (U3.sz + 1) m := by
            refine ⟨fun q hq => ⟨?_, ?_⟩, fun s hs => ?_, ?_⟩
            · have : L.qd q < h.sz := (X.S.pr q hq).sl.dl
              omega
            · have : L.pk q < h.sz := (X.S.pr q hq).k3
              omega
            · have : L.sv s < h.sz := (X.S.sy s hs).v3
              omega
            · have : L.pp m < h.sz := X.O.q3 m hpm
              omega
          refine px_plans (h := (h49.srm ((U3.new 13 0 4).rc - 1) ((U3.new 13 0 4).rs - 4)).srm 0 0) (w := U3.sz + 1) W D hpm PD X49.S (hpv _ m hpm V49) k49 (show U3.sz < h49.sz by omega) r49 v49 hw49 kw49 (show U3.sz + 1 < h49.sz by omega) (fun i _ => a49 i) (X49.O.q1 m hpm) (X49.O.q2 m hpm) (X49.O.q3 m hpm) ?_
          intro h56 x F56 hpl hlen R56 _ _
          rintro _ rfl
          have F56' : Fr (WP L U3.sz (U3.sz + 1) m) h49.c h56.c := F56
          have FA : Fr (fun f b => (b = V.sz ∨ b = U3.sz) ∨ WP L U3.sz (U3.sz + 1) m f b) U'.c h56.c := (F02.mono (fun f a _ hw => Or.inl hw)).trans' F56' (fun f a _ hw => Or.inr hw)
          have FB : Fr (fun f b => b = U3.sz ∨ WP L U3.sz (U3.sz + 1) m f b) U3.c h56.c := (F03.mono (fun f a _ hw => Or.inl hw)).trans' F56' (fun f a _ hw => Or.inr hw)
          have nof : ∀ f a, a < h.sz → f ≠ 1301 → f ≠ 1302 → f ≠ 706 → f ≠ 0 → ¬ ((a = V.sz ∨ a = U3.sz) ∨ WP L U3.sz (U3.sz + 1) m f a) := by
            rintro f a ha h1 h2 h3 h4 (hh | hh | hh | hh | hh | hh)
            · exact old a ha hh
            · exact h1 hh.1
            · exact h2 hh.1
            · exact h4 hh.1
            · exact h4 hh.1
            · exact h3 hh.1
          have noa : ∀ a, a < h.sz → a ≠ L.pp m → ¬ ((a = V.sz ∨ a = U3.sz) ∨ WP L U3.sz (U3.sz + 1) m 0 a) := by
            rintro a ha h1 (hh | hh | hh | hh | hh | hh)
            · exact old a ha hh
            · exact absurd hh.1 (by decide)
            · exact absurd hh.1 (by decide)
            · have := hh.2; omega
            · exact h1 hh.2
            · exact absurd hh.1 (by decide)
          have wpc : ∀ f a, a < h.c.sz → WP L U3.sz (U3.sz + 1) m f a → WC L G o f a := by
            rintro f a ha (hh | hh | hh | hh | hh)
            · have h1 : a < h.sz := ha; have := hh.2; omega
            · have h1 : a < h.sz := ha; have := hh.2; omega
            · have h1 : a < h.sz := ha; have := hh.2; omega
            · exact .inl ⟨hh.1, .inr ⟨m, hpm, hh.2⟩⟩
            · exact .inr (.inr (.inl hh.1))
          refine hK3 _ _ hpm ⟨F49'.trans' F56' wpc, ?_, ?_, ?_, fun s hs => ?_, ?_, fun p hp => ?_, ?_, ?_⟩
          · exact (FA.fi 402 o XU2.O.l (nof _ _ X.O.l (by decide) (by decide) (by decide) (by decide))).trans w402
          · exact (FA.fi 403 o XU2.O.l (nof _ _ X.O.l (by decide) (by decide) (by decide) (by decide))).trans w403
          · exact Ind.keep XU2.S WI2 FA (fun s hs => noa _ (X.S.sy s hs).i3 (D.pps m s hpm hs).1.symm)
          · exact (WV2 s hs).keep (XU2.S.sy s hs) FA (nof _ _ (X.S.sy s hs).l (by decide) (by decide) (by decide) (by decide)) (noa _ (X.S.sy s hs).v3 (D.pps m s hpm hs).2.symm)
          · have hnV : ∀ f, f ≠ 0 → f ≠ 706 → ¬ (V.sz = U3.sz ∨ WP L U3.sz (U3.sz + 1) m f V.sz) := by
              rintro f h0 h7 (hh | hh | hh | hh | hh | hh)
              · omega
              · have := hh.2; omega
              · have := hh.2; omega
              · exact h0 hh.1
              · exact h0 hh.1
              · exact h7 hh.1
            have hplU3 : L.pl < U3.sz := by omega
            refine It3.keep hplU3 FB (hnV _ (by decide) (by decide)) (hnV _ (by decide) (by decide)) (hnV _ (by decide) (by decide)) ?_
            rintro (hh | hh | hh | hh | hh | hh)
            · omega
            · exact absurd hh.1 (by decide)
            · exact absurd hh.1 (by decide)
            · exact absurd hh.1 (by decide)
            · exact absurd hh.1 (by decide)
            · exact absurd hh.1 (by decide)
          · by_cases ep : p = m
            · subst ep
              exact ⟨x, hpl, hlen, R56.s0, R56.s4⟩
            · obtain ⟨y, y1, y2, y3, y4⟩ := WP2 p (by omega)
              have hpn : p < G.nP := by omega
              have hn706 : ¬ ((L.pa p = V.sz ∨ L.pa p = U3.sz) ∨ WP L U3.sz (U3.sz + 1) m 706 (L.pa p)) := by
                rintro (hh | hh | hh | hh | hh | hh)
                · exact old _ (X.S.pr p hpn).l hh
                · exact absurd hh.1 (by decide)
                · exact absurd hh.1 (by decide)
                · exact absurd hh.1 (by decide)
                · exact absurd hh.1 (by decide)
                · exact ep (D.pa p m hpn hpm hh.2)
              refine ⟨y, y1, y2, (FA.fi 706 _ (XU2.S.pr p hpn).l hn706).trans y3, fun i hi => ?_⟩
              have := FA.ai (L.pp p) (XU2.O.q3 p hpn) (noa _ (X.O.q3 p hpn) (fun e => ep (D.pp p m hpn hpm e)))
              exact (congrFun this i).trans (y4 i hi)
          · show _ ≤ U3.rc - 1 - 1; rw [rc3]; omega
          · show _ ≤ U3.rs - 4 - 4; rw [rs3]; omega
      -- a production
      have hq : G.nP - m - 1 < G.nP := by omega
      have es : I (G.nP - m) - 1 = I (G.nP - m - 1) := I_sub (a := G.nP - m) (b := 1) (by omega)
      rw [es]
      refine brF (I_nonneg (by omega)) ⟨nn_of rfl XV.O.k, ?_⟩
      have p1V : V.fr 401 o = some L.pl := XV.O.p1
      rw [p1V, adr_some]
      refine ⟨nn_of rfl XV.O.p2.k, ?_⟩
      refine pc_get (h := V.srm 0 0) XV.O.p2 hq (pu ?_)
      have PV := XV.S.pr _ hq
      refine ⟨.inr (nn_of rfl PV.k), nn_of rfl PV.k, ?_⟩
      refine px_rco (T := V) W XV.S false VI hq (fun hh => absurd hh (by decide)) (by omega) (by omega) ?_
      intro h97 F97 c97 s97
      have F97' : Fr (WC L G o) h.c h97.c := FV.trans (F97.mono (fun _ _ _ hh => hh.elim))
      have X97 := X.keep F97'
      have erow : clo (G.rowF ind true false (G.nP - m - 1)) = clo (G.rI ind (G.nP - m - 1)) := by
        rw [show G.rowF ind true false (G.nP - m - 1) = G.rI ind (G.nP - m - 1) from funext fun x => Gv.rowF_rI]
      rw [erow]
      have hfl : ∀ k, fself (clo (G.rI ind (G.nP - m - 1))) = some k → k < 2147483648 := fun k hk => by have := (fstN_some.1 hk).1; omega
      have e97 : h97.fi 403 o = oI yc := (F97.fi 403 o XV.O.l id).trans v403
      have e97b : h97.fi 402 o = oI yb := (F97.fi 402 o XV.O.l id).trans v402
      rintro m98 rfl
      have hm98 : ((if oI (fself (clo (G.rI ind (G.nP - m - 1)))) < 0 then (0 : Int32) else 1) = 0) ↔ fself (clo (G.rI ind (G.nP - m - 1))) = none := by
        by_cases e : fself (clo (G.rI ind (G.nP - m - 1))) = none
        · rw [if_pos ((oI_lt0 hfl).2 e)]; exact ⟨fun _ => e, fun _ => rfl⟩
        · rw [if_neg (fun hh => e ((oI_lt0 hfl).1 hh))]; exact ⟨fun hh => absurd hh (by decide), fun hh => absurd hh e⟩
      have ek : G.nP - m = G.nP - m - 1 + 1 := by omega
      rw [ek] at hyc hyb
      -- the first circle
      refine ⟨fun x T105 => T105 = h97 ∧ ∃ y, x = oI y ∧ IsF (fun p => (fself (clo (G.rI ind p))).isSome) G.nP (G.nP - m - 1) y, ?_, ?_⟩
      · by_cases e : fself (clo (G.rI ind (G.nP - m - 1))) = none
        · refine brT (hm98.2 e) ⟨nn_of rfl X97.O.k, rfl, yc, e97, hyc.miss (by simp [e])⟩
        · refine brF (fun hh => e (hm98.1 hh)) ⟨rfl, some (G.nP - m - 1), rfl, IsF.hit hq ?_⟩
          cases hh : fself (clo (G.rI ind (G.nP - m - 1))) with
          | none => exact absurd hh e
          | some y => simp [hh]
      rintro x T105 ⟨rfl, y, rfl, hy⟩
      refine ⟨nn_of rfl X97.O.k, ?_⟩
      rintro _ rfl
      have FS : Fr (WC L G o) h.c (T105.sfi 403 o (oI y)).c := F97'.sfi _ (fun _ => .inr (.inr (.inr ⟨.inr rfl, rfl⟩)))
      have F07 : Fr (fun f b => f = 403 ∧ b = o) V.c (T105.sfi 403 o (oI y)).c := Fr.sfi (h := T105) (F97.mono (fun _ _ _ hh => hh.elim)) _ (fun _ => ⟨rfl, rfl⟩)
      have n403 : ∀ f b, f ≠ 403 → ¬ (f = 403 ∧ b = o) := fun f b h1 h2 => h1 h2.1
      have XS := X.keep FS
      have VIS : Ind (T105.sfi 403 o (oI y)).c L G ind := Ind.keep XV.S VI F07 (fun s hs => n403 _ _ (by decide))
      have VVS : ∀ s, s < G.nS → Vis (T105.sfi 403 o (oI y)).c L G ind s := fun s hs => (VV s hs).keep (XV.S.sy s hs) F07 (n403 _ _ (by decide)) (n403 _ _ (by decide))
      have bS : (T105.sfi 403 o (oI y)).fi 402 o = oI yb := by rw [sfi_ne _ _ _ _ (by decide)]; exact e97b
      have eS : I (G.nP - m - 1) + (-1) = I (G.nP - (m + 1)) - 1 := by rw [add_neg1, show G.nP - m - 1 = G.nP - (m + 1) by omega]
      -- how a production is done
      have fin : ∀ (U : AH) (y2 : Option Nat), Fr W0 (T105.sfi 403 o (oI y)).c U.c → IsF (fun p => (fself (clo (G.rI ind p))).isSome || (fself (clo (G.rV ind p))).isSome) G.nP (G.nP - m - 1) y2 → 2 * (G.nP - (m + 1)) + cc4 G ≤ U.rc → 64 * (G.nP - (m + 1)) + cs4 G ≤ U.rs → K2 (I (G.nP - m - 1) + (-1)) (U.sfi 402 o (oI y2)) := by
        intro U y2 FU hy2 urc urs
        rw [eS]
        have FU' : Fr (WC L G o) h.c (U.sfi 402 o (oI y2)).c := (FS.trans (FU.mono (fun _ _ _ hh => hh.elim))).sfi _ (fun _ => .inr (.inr (.inr ⟨.inl rfl, rfl⟩)))
        have F2 : Fr (fun f b => f = 402 ∧ b = o) (T105.sfi 403 o (oI y)).c (U.sfi 402 o (oI y2)).c := Fr.sfi (h := U) (FU.mono (fun _ _ _ hh => hh.elim)) _ (fun _ => ⟨rfl, rfl⟩)
        have n402 : ∀ f b, f ≠ 402 → ¬ (f = 402 ∧ b = o) := fun f b h1 h2 => h1 h2.1
        refine hK2 _ _ (by omega) ⟨rfl, FU', Ind.keep XS.S VIS F2 (fun s hs => n402 _ _ (by decide)), fun s hs => (VVS s hs).keep (XS.S.sy s hs) F2 (n402 _ _ (by decide)) (n402 _ _ (by decide)), ⟨y, ?_, ?_⟩, ⟨y2, sfi_same _ _ _ _, ?_⟩, urc, urs⟩
        · exact (F2.fi 403 o XS.O.l (n402 _ _ (by decide))).trans (sfi_same _ _ _ _)
        · rw [show G.nP - (m + 1) = G.nP - m - 1 by omega]; exact hy
        · rw [show G.nP - (m + 1) = G.nP - m - 1 by omega]; exact hy2
      by_cases e : fself (clo (G.rI ind (G.nP - m - 1))) = none
      · refine brT (hm98.2 e) ⟨nn_of rfl (XS.S.pr _ hq).k, ?_⟩
        refine px_rco (T := T105.sfi 403 o (oI y)) W XS.S true VIS hq (fun _ k hk => ?_) (by rw [sfi_rc, c97]; omega) (by rw [sfi_rs, s97]; omega) ?_
        · have hn := noSelf' W hq e hk
          exact ⟨hI.vb W (W.sy _ k hq hk) hn, (VVS _ (W.sy _ k hq hk)).v hn⟩
        intro h122 F122 c122 s122
        have erow2 : fself (clo (G.rowF ind true true (G.nP - m - 1))) = fself (clo (G.rV ind (G.nP - m - 1))) :=
          fself_congr' (fun x hx => clo_congr (fun y hy => Gv.rowF_rV W hq hy) hx)
        rw [erow2]
        have hfl2 : ∀ k, fself (clo (G.rV ind (G.nP - m - 1))) = some k → k < 2147483648 := fun k hk => by have := (fstN_some.1 hk).1; omega
        have k122 : (h122.kd o).1 = 4 := by rw [← XS.O.k]; exact congrArg Prod.fst (F122.kd o XS.O.l)
        have b122 : h122.fi 402 o = oI yb := (F122.fi 402 o XS.O.l id).trans bS
        by_cases e2 : fself (clo (G.rV ind (G.nP - m - 1))) = none
        · refine brT ((oI_lt0 hfl2).2 e2) ⟨nn_of rfl k122, ?_⟩
          rintro _ rfl
          rw [b122]
          refine fin h122 yb F122 (hyb.miss (by simp [e, e2])) ?_ ?_
          · rw [c122, sfi_rc, c97]; omega
          · rw [s122, sfi_rs, s97]; omega
        · refine brF (fun hh => e2 ((oI_lt0 hfl2).1 hh)) ⟨nn_of rfl k122, ?_⟩
          rintro _ rfl
          refine fin h122 (some (G.nP - m - 1)) F122 (IsF.hit hq ?_) ?_ ?_
          · cases hh : fself (clo (G.rV ind (G.nP - m - 1))) with
            | none => exact absurd hh e2
            | some y => simp [hh]
          · rw [c122, sfi_rc, c97]; omega
          · rw [s122, sfi_rs, s97]; omega
      · refine brF (fun hh => e (hm98.1 hh)) ?_
        rintro _ rfl
        refine fin _ (some (G.nP - m - 1)) (Fr.refl _) (IsF.hit hq ?_) ?_ ?_
        · cases hh : fself (clo (G.rI ind (G.nP - m - 1))) with
          | none => exact absurd hh e
          | some y => simp [hh]
        · rw [sfi_rc, c97]; omega
        · rw [sfi_rs, s97]; omega
    -- orders
    rw [if_neg em]
    have hsm : m < G.nS := by omega
    refine brF (by decide) ?_
    refine ⟨fun r U3 => r = some (L.sa m) ∧ Fr (fun f b => b = T.sz ∧ (f = 2400 ∨ f = 2401)) U'.c U3.c ∧ It U3.c T.sz L.sl (m + 1) ∧ U3.rc = U'.rc ∧ U3.rs = U'.rs ∧ U3.sz = U'.sz, .inl ⟨nn_of rfl UIt.k, 0, 0, ⟨Nat.zero_le _, Nat.zero_le _⟩, ?_⟩, ?_⟩
    · refine pc_next (h := U'.srm 0 0) XU.O.s2 UIt hsm hnesl ?_
      intro h' F' It' _ _ z'
      rintro _ rfl
      exact ⟨rfl, F', It', rfl, rfl, z'⟩
    rintro r U3 ⟨rfl, F3, It3, rc3, rs3, z3⟩
    have hzT : h.sz ≤ T.sz := F.sz
    have hzU : T.sz < U'.sz := UIt.l
    have oldI : ∀ f a, a < h.sz → ¬ (a = T.sz ∧ (f = 2400 ∨ f = 2401)) := fun f a ha hh => by have := hh.1; omega
    have F3' : Fr (WC L G o) h.c U3.c := FU.trans' F3 (fun f a ha hw => absurd hw (oldI f a ha))
    have X3 := X.keep F3'
    have I3 : Ind U3.c L G ind := Ind.keep XU.S UI F3 (fun s hs => oldI _ _ (X.S.sy s hs).i3)
    have Y3 := X3.S.sy m hsm
    refine ⟨.inr (nn_of rfl Y3.k), nn_of rfl Y3.k, 1, 8, ⟨by rw [rc3]; omega, by rw [rs3]; omega⟩, ?_⟩
    refine px_orders (h := U3.srm 1 8) W hsm Y3 (D.sisv m m hsm hsm) (fun a ha => I3 m a hsm ha) (fun a h1 h2 => Ind.zeroB W hI hsm h1 h2) (fun hn => hI.acy W hsm hn) (Nat.le_refl _) (Nat.le_refl _) ?_
    intro h135 F135 V135
    rintro _ rfl
    have F135' : Fr (WO L m) U3.c h135.c := F135
    have woN : ∀ f a, f ≠ 605 → f ≠ 0 → ¬ WO L m f a := by
      rintro f a h1 h2 (hh | hh)
      · exact h1 hh.1
      · exact h2 hh.1
    refine hK _ _ hsm ⟨F3'.trans' F135' (fun f a _ hw => wo m hsm f a hw), ?_, ?_, ?_, ?_, fun s hs => ?_, ?_, ?_⟩
    · exact (F135'.fi 402 o X3.O.l (woN _ _ (by decide) (by decide))).trans ((F3.fi 402 o XU.O.l (oldI _ _ X.O.l)).trans u402)
    · exact (F135'.fi 403 o X3.O.l (woN _ _ (by decide) (by decide))).trans ((F3.fi 403 o XU.O.l (oldI _ _ X.O.l)).trans u403)
    · refine Ind.keep X3.S I3 F135' (fun s hs => ?_)
      rintro (hh | hh)
      · exact absurd hh.1 (by decide)
      · exact D.sisv s m hs hsm hh.2
    · have : L.sl < U3.sz := by omega
      exact It3.keep this F135' (woN _ _ (by decide) (by decide)) (woN _ _ (by decide) (by decide)) (woN _ _ (by decide) (by decide)) (woN _ _ (by decide) (by decide))
    · by_cases e : s = m
      · rw [e]; exact V135
      · have hsn : s < G.nS := by omega
        have v3 : Vis U3.c L G ind s := (UV s (by omega)).keep (XU.S.sy s hsn) F3 (oldI _ _ (X.S.sy s hsn).l) (oldI _ _ (X.S.sy s hsn).v3)
        refine v3.keep (X3.S.sy s hsn) F135' ?_ ?_
        · rintro (hh | hh)
          · exact e (D.sa s m hsn hsm hh.2)
          · exact absurd hh.1 (by decide)
        · rintro (hh | hh)
          · exact absurd hh.1 (by decide)
          · exact e (D.sv s m hsn hsm hh.2)
    · show _ ≤ U3.rc - 1; rw [rc3]; omega
    · show _ ≤ U3.rs - 8; rw [rs3]; omega
  -- a round
  subst hs1
  have hmb := mb_le (G.indK k)
  rw [mul_step hmb] at rc1 rs1
  refine brF (by decide) ⟨nn_of rfl XT.O.k, ?_⟩
  have p1T : T.fr 401 o = some L.pl := XT.O.p1
  rw [p1T, adr_some]
  refine ⟨nn_of rfl XT.O.p2.k, 1, 4, ⟨by omega, by omega⟩, ?_⟩
  refine pc_iterator (h := T.srm 1 4) XT.O.p2 (Nat.le_refl _) (Nat.le_refl _) ?_
  intro h165 F165 I165 z165 _ _
  rintro _ rfl
  have hzT : h.sz ≤ T.sz := F.sz
  have tpl : L.pl < T.sz := XT.O.p2.al
  refine xlp_cnt G.nP (fun m fl U => Fr (WC L G o) h.c U.c ∧ U.fi 402 o = -1 ∧ U.fi 403 o = -1 ∧ Ind U.c L G (G.indR (G.indK k) m) ∧ It U.c T.sz L.pl m ∧ Flg fl (G.indK k) (G.indR (G.indK k) m) ∧
    (512 - mb (G.indK k)) * (1 + G.nP) + (G.nP - m) + cc2 G ≤ U.rc ∧ (512 - mb (G.indK k)) * (4 + 32 * G.nP) + 32 * (G.nP - m) + cs2 G ≤ U.rs) ?_ ?_
  · have F165' : Fr (WC L G o) h.c h165.c := F.trans (F165.mono (fun _ _ _ hh => hh.elim))
    refine ⟨F165', (F165.fi 402 o XT.O.l id).trans e402, (F165.fi 403 o XT.O.l id).trans e403, Ind.keep XT.S hInd F165 (fun _ _ => id), I165, .inl ⟨rfl, rfl⟩, ?_, ?_⟩
    · show _ ≤ T.rc - 1; omega
    · show _ ≤ T.rs - 4; omega
  rintro m fl U K hm ⟨FU, u402, u403, UI, UIt, hfl, urc, urs⟩ hK
  have XU := X.keep FU
  refine ⟨fun r U' => r = (if m = G.nP then 0 else 1) ∧ U' = U, .inl ⟨nn_of rfl UIt.k, ?_⟩, ?_⟩
  · exact pc_hasNext (h := U.srm 0 0) XU.O.p2 UIt hm (pu ⟨rfl, rfl⟩)
  rintro r U' ⟨rfl, rfl⟩
  by_cases em : m = G.nP
  · subst em
    rw [if_pos rfl]
    refine brT rfl ?_
    rcases hfl with ⟨hf, he⟩ | ⟨hf, he⟩
    · refine ⟨0, by omega, k + 1, FU, u402, u403, UI, .inl ⟨hf, ?_, by omega, by omega⟩⟩
      show G.indR (G.indR (G.indK k) G.nP) G.nP = G.indR (G.indK k) G.nP
      rw [he, he]
    · have hmb' := mb_le (G.indK (k + 1))
      have he' : mb (G.indK k) < mb (G.indK (k + 1)) := he
      have m1 := mul_mono (P := 1 + G.nP) he'
      have m2 := mul_mono (P := 4 + 32 * G.nP) he'
      exact ⟨513 - mb (G.indK (k + 1)), by omega, k + 1, FU, u402, u403, UI, .inr ⟨hf, rfl, by omega, by omega⟩⟩
  rw [if_neg em]
  have hpm : m < G.nP := by omega
  refine brF (by decide) ?_
  refine ⟨fun r U3 => r = some (L.pa m) ∧ Fr (fun f b => b = T.sz ∧ (f = 2400 ∨ f = 2401)) U'.c U3.c ∧ It U3.c T.sz L.pl (m + 1) ∧ U3.rc = U'.rc ∧ U3.rs = U'.rs ∧ U3.sz = U'.sz, .inl ⟨nn_of rfl UIt.k, 0, 0, ⟨Nat.zero_le _, Nat.zero_le _⟩, ?_⟩, ?_⟩
  · refine pc_next (h := U'.srm 0 0) XU.O.p2 UIt hpm (by omega) ?_
    intro h' F' It' _ _ z'
    rintro _ rfl
    exact ⟨rfl, F', It', rfl, rfl, z'⟩
  rintro r U3 ⟨rfl, F3, It3, rc3, rs3, z3⟩
  have hzU : T.sz < U'.sz := UIt.l
  have oldI : ∀ f a, a < h.sz → ¬ (a = T.sz ∧ (f = 2400 ∨ f = 2401)) := fun f a ha hh => by have := hh.1; omega
  have F3' : Fr (WC L G o) h.c U3.c := FU.trans' F3 (fun f a ha hw => absurd hw (oldI f a ha))
  have X3 := X.keep F3'
  have I3 : Ind U3.c L G (G.indR (G.indK k) m) := Ind.keep XU.S UI F3 (fun s hs => oldI _ _ (X.S.sy s hs).i3)
  have lt8 : ∀ n i j, bt (G.indR (G.indK k) n i) j = true → j < 8 := by
    have hN : ∀ p rows ind m, (∀ i k, bt (ind i) k = true → k < 8) → ∀ i k, bt (G.indN p rows m ind i) k = true → k < 8 := by
      intro p rows ind m h0
      induction m with
      | zero => exact h0
      | succ m ih =>
        simp only [Gv.indN]
        split
        · next hc =>
          intro i k hb
          simp only [updN] at hb
          split at hb
          · rw [bt_or, its_bt hc.1] at hb
            simp only [Bool.or_eq_true, Bool.and_eq_true, decide_eq_true_eq] at hb
            rcases hb with hb | hb
            · exact ih _ k hb
            · exact hb.2
          · exact ih i k hb
        · exact ih
    have hR : ∀ ind m, (∀ i k, bt (ind i) k = true → k < 8) → ∀ i k, bt (G.indR ind m i) k = true → k < 8 := by
      intro ind m h0
      induction m with
      | zero => exact h0
      | succ m ih => exact hN m _ _ 32 ih
    have hK : ∀ n i k, bt (G.indK n i) k = true → k < 8 := by
      intro n
      induction n with
      | zero => intro i k hb; simp [Gv.indK, bt_zero] at hb
      | succ n ih => exact hR _ _ ih
    exact fun n => hR _ _ (hK k)
  refine ⟨.inr (nn_of rfl (X3.S.pr m hpm).k), nn_of rfl X3.O.k, 1, 32, ⟨by rw [rc3]; omega, by rw [rs3]; omega⟩, ?_⟩
  refine px_induces (h := U3.srm 1 32) (ind0 := fun _ => 0) W X3.S D I3 (lt8 m) hpm (Nat.le_refl _) (Nat.le_refl _) ?_
  intro fl2 h183 F183 I183 hf2 _ _
  rintro _ rfl
  have F183' : Fr (WI L G) U3.c h183.c := F183
  refine hK _ _ hpm ⟨F3'.trans' F183' (fun f a _ hw => wi f a hw), ?_, ?_, I183, ?_, ?_, ?_, ?_⟩
  · exact (F183'.fi 402 o X3.O.l (wi2 _).1).trans ((F3.fi 402 o XU.O.l (oldI _ _ X.O.l)).trans u402)
  · exact (F183'.fi 403 o X3.O.l (wi2 _).2.1).trans ((F3.fi 403 o XU.O.l (oldI _ _ X.O.l)).trans u403)
  · have : L.pl < U3.sz := by omega
    exact It3.keep this F183' (wi2 _).2.2.1 (wi2 _).2.2.2.1 (wi2 _).2.2.2.2.1 (wi2 _).2.2.2.2.2
  · have hs2 : Sub (G.indR (G.indK k) m) (G.indP (G.indR (G.indK k) m) m) := Gv.indN_sub 32
    rcases hfl with ⟨rfl, he⟩ | ⟨rfl, he⟩
    · rcases hf2 with ⟨rfl, he2⟩ | ⟨rfl, he2⟩
      · exact .inl ⟨rfl, he2.trans he⟩
      · have h1 : mb (G.indR (G.indK k) m) = mb (G.indK k) := congrArg mb he
        have h2 : mb (G.indR (G.indK k) m) < mb (G.indR (G.indK k) (m + 1)) := he2
        exact .inr ⟨rfl, Nat.lt_of_le_of_lt (Nat.le_of_eq h1.symm) h2⟩
    · have h3 : mb (G.indR (G.indK k) m) ≤ mb (G.indR (G.indK k) (m + 1)) := mb_mono hs2
      have e : (1 : Int32) ||| fl2 = 1 := by rcases hf2 with ⟨rfl, _⟩ | ⟨rfl, _⟩ <;> decide
      exact .inr ⟨e, Nat.lt_of_lt_of_le he h3⟩
  · show _ ≤ U3.rc - 1; rw [rc3]; omega
  · show _ ≤ U3.rs - 32; rw [rs3]; omega
end
