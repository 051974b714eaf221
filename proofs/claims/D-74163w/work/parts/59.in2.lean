/-! plain: cn2 -/
set_option maxRecDepth 100000
section
variable {G : Gv} {T : Tv} {h : AH} {L : GA} {A : TA} {x o : Nat}

theorem nar_0 : vp_nar .boolean 0 = 0 := rfl
theorem nar_1 : vp_nar .boolean 1 = 1 := rfl

theorem px_asksFor (W : G.WF) (X : T.WF G) (S : GS h.c L G) (R : TrR h.c L A G T x) (J : InO h.c o x) {i j : Nat} (hi : T.is G i) (hj : j < 320) (b : Bool) (hb : b = true ↔ T.ed G i j) {Q : Int32 → AH → Prop} (hQ : Q (if b then 1 else 0) h) : wp_X17_asksFor o (I i) (I j) h Q := by
  have h40 := X.n40
  refine ⟨nn_of rfl J.k, ?_⟩
  refine px_askedI (h := h.srm 0 0) W X S R J hi (pu ?_)
  refine xlp_cnt 32 (fun k q T' => q = I k ∧ T' = h ∧ ∀ u, u < k → bt (T.ask G i) u = true → T.oth G i u ≠ j) ⟨rfl, rfl, fun u hu => by omega⟩ ?_
  rintro k _ T' K hk ⟨rfl, rfl, hf⟩ hK
  by_cases e : k = 32
  · subst e
    refine brT (by (first | omega | ((try simp (disch := omega) only [L_le, le_L, L_lt, lt_L, eq_L, L_eq, I_le, I_lt, I_eq, I_ni, add_L, L_add, I_add, mul_L, L_mul, I_mul, sub_L, L_sub, I_sub, div_L, rem_L]); done) | ((try simp (disch := omega) only [L_le, le_L, L_lt, lt_L, eq_L, L_eq, I_le, I_lt, I_eq, I_ni, add_L, L_add, I_add, mul_L, L_mul, I_mul, sub_L, L_sub, I_sub, div_L, rem_L]); omega))) ?_
    have : b = false := by
      cases hbb : b with
      | false => rfl
      | true =>
        obtain ⟨_, u, hu, h1, h2⟩ := hb.1 hbb
        exact absurd h2 (hf u hu h1)
    rw [this] at hQ; exact hQ
  refine brF (by (first | omega | ((try simp (disch := omega) only [L_le, le_L, L_lt, lt_L, eq_L, L_eq, I_le, I_lt, I_eq, I_ni, add_L, L_add, I_add, mul_L, L_mul, I_mul, sub_L, L_sub, I_sub, div_L, rem_L]); done) | ((try simp (disch := omega) only [L_le, le_L, L_lt, lt_L, eq_L, L_eq, I_le, I_lt, I_eq, I_ni, add_L, L_add, I_add, mul_L, L_mul, I_mul, sub_L, L_sub, I_sub, div_L, rem_L]); omega))) ?_
  refine px_has (h := T'.srm 0 0) (by omega) (pu ?_)
  have hnext : ¬ (bt (T.ask G i) k = true ∧ T.oth G i k = j) → K (I (k + 1)) T' := by
    intro hn
    refine hK _ _ (by omega) ⟨rfl, rfl, fun u hu h1 h2 => ?_⟩
    by_cases e : u = k
    · exact hn ⟨e ▸ h1, e ▸ h2⟩
    · exact hf u (by omega) h1 h2
  (try simp (disch := omega) only [L_le, le_L, L_lt, lt_L, eq_L, L_eq, I_le, I_lt, I_eq, I_ni, add_L, L_add, I_add, mul_L, L_mul, I_mul, sub_L, L_sub, I_sub, div_L, rem_L])
  by_cases hbk : bt (T.ask G i) k = true
  · rw [if_pos hbk]
    refine brF (by decide) ⟨nn_of rfl J.k, ?_⟩
    have hlt := X.isLt (X.oth_is W hi hbk).choose_spec.2.2.2.2.2
    refine px_other (h := T'.srm 0 0) W X S R J hi hbk (pu ?_)
    by_cases ej : T.oth G i k = j
    · refine brT (by rw [ej]) ?_
      have : b = true := hb.2 ⟨hi, k, by omega, hbk, ej⟩
      rw [this] at hQ; exact hQ
    · exact brF (fun hh => ej ((I_eq (by omega) (by omega)).1 hh)) (hnext (fun hh => ej hh.2))
  · rw [if_neg hbk]
    exact brT rfl (hnext (fun hh => hbk hh.1))

/-- where the rows of instances lie. -/
def IA : Type := Nat × Nat × Nat × Nat × Nat × Nat
def IA.kn (B : IA) : Nat := B.1
def IA.od (B : IA) : Nat := B.2.1
def IA.lw (B : IA) : Nat := B.2.2.1
def IA.pi (B : IA) : Nat := B.2.2.2.1
def IA.ip (B : IA) : Nat := B.2.2.2.2.1
def IA.ik (B : IA) : Nat := B.2.2.2.2.2

/-- rows of instances are there, each its own. -/
def IxR (c : HC) (o : Nat) (B : IA) : Prop :=
  (c.fr 1701 o = some B.kn) ∧
  (c.fr 1702 o = some B.od) ∧
  (c.fr 1703 o = some B.lw) ∧
  (c.fr 1704 o = some B.pi) ∧
  (c.fr 1705 o = some B.ip) ∧
  (c.fr 1706 o = some B.ik) ∧
  (c.kd B.kn = (40, 320)) ∧
  (c.kd B.od = (40, 320)) ∧
  (c.kd B.lw = (40, 320)) ∧
  (c.kd B.pi = (40, 320)) ∧
  (c.kd B.ip = (42, 320)) ∧
  (c.kd B.ik = (42, 320)) ∧
  (B.kn < c.sz) ∧
  (B.od < c.sz) ∧
  (B.lw < c.sz) ∧
  (B.pi < c.sz) ∧
  (B.ip < c.sz) ∧
  (B.ik < c.sz) ∧
  (B.kn ≠ B.od) ∧
  (B.kn ≠ B.lw) ∧
  (B.kn ≠ B.pi) ∧
  (B.od ≠ B.lw) ∧
  (B.od ≠ B.pi) ∧
  (B.lw ≠ B.pi) ∧
  (B.ip ≠ B.ik)
theorem IxR.f1 {c : HC} {o : Nat} {B : IA} (h9 : IxR c o B) : c.fr 1701 o = some B.kn := h9.1
theorem IxR.f2 {c : HC} {o : Nat} {B : IA} (h9 : IxR c o B) : c.fr 1702 o = some B.od := h9.2.1
theorem IxR.f3 {c : HC} {o : Nat} {B : IA} (h9 : IxR c o B) : c.fr 1703 o = some B.lw := h9.2.2.1
theorem IxR.f4 {c : HC} {o : Nat} {B : IA} (h9 : IxR c o B) : c.fr 1704 o = some B.pi := h9.2.2.2.1
theorem IxR.f5 {c : HC} {o : Nat} {B : IA} (h9 : IxR c o B) : c.fr 1705 o = some B.ip := h9.2.2.2.2.1
theorem IxR.f6 {c : HC} {o : Nat} {B : IA} (h9 : IxR c o B) : c.fr 1706 o = some B.ik := h9.2.2.2.2.2.1
theorem IxR.k1 {c : HC} {o : Nat} {B : IA} (h9 : IxR c o B) : c.kd B.kn = (40, 320) := h9.2.2.2.2.2.2.1
theorem IxR.k2 {c : HC} {o : Nat} {B : IA} (h9 : IxR c o B) : c.kd B.od = (40, 320) := h9.2.2.2.2.2.2.2.1
theorem IxR.k3 {c : HC} {o : Nat} {B : IA} (h9 : IxR c o B) : c.kd B.lw = (40, 320) := h9.2.2.2.2.2.2.2.2.1
theorem IxR.k4 {c : HC} {o : Nat} {B : IA} (h9 : IxR c o B) : c.kd B.pi = (40, 320) := h9.2.2.2.2.2.2.2.2.2.1
theorem IxR.k5 {c : HC} {o : Nat} {B : IA} (h9 : IxR c o B) : c.kd B.ip = (42, 320) := h9.2.2.2.2.2.2.2.2.2.2.1
theorem IxR.k6 {c : HC} {o : Nat} {B : IA} (h9 : IxR c o B) : c.kd B.ik = (42, 320) := h9.2.2.2.2.2.2.2.2.2.2.2.1
theorem IxR.l1 {c : HC} {o : Nat} {B : IA} (h9 : IxR c o B) : B.kn < c.sz := h9.2.2.2.2.2.2.2.2.2.2.2.2.1
theorem IxR.l2 {c : HC} {o : Nat} {B : IA} (h9 : IxR c o B) : B.od < c.sz := h9.2.2.2.2.2.2.2.2.2.2.2.2.2.1
theorem IxR.l3 {c : HC} {o : Nat} {B : IA} (h9 : IxR c o B) : B.lw < c.sz := h9.2.2.2.2.2.2.2.2.2.2.2.2.2.2.1
theorem IxR.l4 {c : HC} {o : Nat} {B : IA} (h9 : IxR c o B) : B.pi < c.sz := h9.2.2.2.2.2.2.2.2.2.2.2.2.2.2.2.1
theorem IxR.l5 {c : HC} {o : Nat} {B : IA} (h9 : IxR c o B) : B.ip < c.sz := h9.2.2.2.2.2.2.2.2.2.2.2.2.2.2.2.2.1
theorem IxR.l6 {c : HC} {o : Nat} {B : IA} (h9 : IxR c o B) : B.ik < c.sz := h9.2.2.2.2.2.2.2.2.2.2.2.2.2.2.2.2.2.1
theorem IxR.d12 {c : HC} {o : Nat} {B : IA} (h9 : IxR c o B) : B.kn ≠ B.od := h9.2.2.2.2.2.2.2.2.2.2.2.2.2.2.2.2.2.2.1
theorem IxR.d13 {c : HC} {o : Nat} {B : IA} (h9 : IxR c o B) : B.kn ≠ B.lw := h9.2.2.2.2.2.2.2.2.2.2.2.2.2.2.2.2.2.2.2.1
theorem IxR.d14 {c : HC} {o : Nat} {B : IA} (h9 : IxR c o B) : B.kn ≠ B.pi := h9.2.2.2.2.2.2.2.2.2.2.2.2.2.2.2.2.2.2.2.2.1
theorem IxR.d23 {c : HC} {o : Nat} {B : IA} (h9 : IxR c o B) : B.od ≠ B.lw := h9.2.2.2.2.2.2.2.2.2.2.2.2.2.2.2.2.2.2.2.2.2.1
theorem IxR.d24 {c : HC} {o : Nat} {B : IA} (h9 : IxR c o B) : B.od ≠ B.pi := h9.2.2.2.2.2.2.2.2.2.2.2.2.2.2.2.2.2.2.2.2.2.2.1
theorem IxR.d34 {c : HC} {o : Nat} {B : IA} (h9 : IxR c o B) : B.lw ≠ B.pi := h9.2.2.2.2.2.2.2.2.2.2.2.2.2.2.2.2.2.2.2.2.2.2.2.1
theorem IxR.d56 {c : HC} {o : Nat} {B : IA} (h9 : IxR c o B) : B.ip ≠ B.ik := h9.2.2.2.2.2.2.2.2.2.2.2.2.2.2.2.2.2.2.2.2.2.2.2.2

/-- Tarjan's state as it lies there. -/
def TjR (c : HC) (o : Nat) (B : IA) (m : Nat) (s : TjS) : Prop :=
  (∀ i, i < 320 → c.ai B.od i = I (s.ord i)) ∧
  (∀ i, i < 320 → c.ai B.lw i = I (s.low i)) ∧
  (∀ k, k < s.pd → c.ai B.pi k = I (s.pile k)) ∧
  (∀ i, i < 320 → c.ai B.ip i = if s.ord i ≠ 0 ∧ s.kn i = none then 1 else 0) ∧
  (∀ i, i < m → c.ai B.kn i = oI (s.kn i)) ∧
  (∀ k, k < s.kts → c.ai B.ik k = if s.kt k then 1 else 0) ∧
  (c.fi 1707 o = I s.kts) ∧
  (c.fi 1708 o = I s.pd) ∧
  (c.fi 1709 o = I s.met)
theorem TjR.od {c : HC} {o : Nat} {B : IA} {m : Nat} {s : TjS} (h9 : TjR c o B m s) : ∀ i, i < 320 → c.ai B.od i = I (s.ord i) := h9.1
theorem TjR.lw {c : HC} {o : Nat} {B : IA} {m : Nat} {s : TjS} (h9 : TjR c o B m s) : ∀ i, i < 320 → c.ai B.lw i = I (s.low i) := h9.2.1
theorem TjR.pi {c : HC} {o : Nat} {B : IA} {m : Nat} {s : TjS} (h9 : TjR c o B m s) : ∀ k, k < s.pd → c.ai B.pi k = I (s.pile k) := h9.2.2.1
theorem TjR.ip {c : HC} {o : Nat} {B : IA} {m : Nat} {s : TjS} (h9 : TjR c o B m s) : ∀ i, i < 320 → c.ai B.ip i = if s.ord i ≠ 0 ∧ s.kn i = none then 1 else 0 := h9.2.2.2.1
theorem TjR.kn {c : HC} {o : Nat} {B : IA} {m : Nat} {s : TjS} (h9 : TjR c o B m s) : ∀ i, i < m → c.ai B.kn i = oI (s.kn i) := h9.2.2.2.2.1
theorem TjR.ik {c : HC} {o : Nat} {B : IA} {m : Nat} {s : TjS} (h9 : TjR c o B m s) : ∀ k, k < s.kts → c.ai B.ik k = if s.kt k then 1 else 0 := h9.2.2.2.2.2.1
theorem TjR.n1 {c : HC} {o : Nat} {B : IA} {m : Nat} {s : TjS} (h9 : TjR c o B m s) : c.fi 1707 o = I s.kts := h9.2.2.2.2.2.2.1
theorem TjR.n2 {c : HC} {o : Nat} {B : IA} {m : Nat} {s : TjS} (h9 : TjR c o B m s) : c.fi 1708 o = I s.pd := h9.2.2.2.2.2.2.2.1
theorem TjR.n3 {c : HC} {o : Nat} {B : IA} {m : Nat} {s : TjS} (h9 : TjR c o B m s) : c.fi 1709 o = I s.met := h9.2.2.2.2.2.2.2.2

/-- what Tarjan's walk writes. -/
def WT (B : IA) (o : Nat) : Nat → Nat → Prop := fun f b => (f = 0 ∧ (b = B.kn ∨ b = B.od ∨ b = B.lw ∨ b = B.pi ∨ b = B.ip ∨ b = B.ik)) ∨ ((f = 1707 ∨ f = 1708 ∨ f = 1709) ∧ b = o)

theorem WT.nof {B : IA} {f a : Nat} (h0 : f ≠ 0) (h1 : f ≠ 1707) (h2 : f ≠ 1708) (h3 : f ≠ 1709) : ¬ WT B o f a := by
  rintro (hh | hh)
  · exact h0 hh.1
  · rcases hh.1 with e | e | e
    · exact h1 e
    · exact h2 e
    · exact h3 e
theorem WT.noa {c : HC} {B : IA} {a t n : Nat} (Y : IxR c o B) (hk : c.kd a = (t, n)) (hn : n ≠ 320) : ¬ WT B o 0 a := by
  rintro (hh | hh)
  · rcases hh.2 with e | e | e | e | e | e
    · rw [e] at hk; exact hn (Prod.mk.inj (hk.symm.trans Y.k1)).2
    · rw [e] at hk; exact hn (Prod.mk.inj (hk.symm.trans Y.k2)).2
    · rw [e] at hk; exact hn (Prod.mk.inj (hk.symm.trans Y.k3)).2
    · rw [e] at hk; exact hn (Prod.mk.inj (hk.symm.trans Y.k4)).2
    · rw [e] at hk; exact hn (Prod.mk.inj (hk.symm.trans Y.k5)).2
    · rw [e] at hk; exact hn (Prod.mk.inj (hk.symm.trans Y.k6)).2
  · rcases hh.1 with e | e | e <;> exact absurd e (by decide)
theorem WT.noq {c : HC} {B : IA} {a n : Nat} (Y : IxR c o B) (hk : c.kd a = (44, n)) : ¬ WT B o 0 a := by
  rintro (hh | hh)
  · rcases hh.2 with e | e | e | e | e | e
    · rw [e] at hk; exact absurd (Prod.mk.inj (hk.symm.trans Y.k1)).1 (by decide)
    · rw [e] at hk; exact absurd (Prod.mk.inj (hk.symm.trans Y.k2)).1 (by decide)
    · rw [e] at hk; exact absurd (Prod.mk.inj (hk.symm.trans Y.k3)).1 (by decide)
    · rw [e] at hk; exact absurd (Prod.mk.inj (hk.symm.trans Y.k4)).1 (by decide)
    · rw [e] at hk; exact absurd (Prod.mk.inj (hk.symm.trans Y.k5)).1 (by decide)
    · rw [e] at hk; exact absurd (Prod.mk.inj (hk.symm.trans Y.k6)).1 (by decide)
  · rcases hh.1 with e | e | e <;> exact absurd e (by decide)

/-- all that is read and not written. -/
def TjB (c : HC) (L : GA) (A : TA) (G : Gv) (T : Tv) (x o : Nat) (B : IA) : Prop :=
  (GS c L G) ∧
  (TrR c L A G T x) ∧
  (InO c o x) ∧
  (IxR c o B)
theorem TjB.S {c : HC} {L : GA} {A : TA} {G : Gv} {T : Tv} {x o : Nat} {B : IA} (h9 : TjB c L A G T x o B) : GS c L G := h9.1
theorem TjB.R {c : HC} {L : GA} {A : TA} {G : Gv} {T : Tv} {x o : Nat} {B : IA} (h9 : TjB c L A G T x o B) : TrR c L A G T x := h9.2.1
theorem TjB.J {c : HC} {L : GA} {A : TA} {G : Gv} {T : Tv} {x o : Nat} {B : IA} (h9 : TjB c L A G T x o B) : InO c o x := h9.2.2.1
theorem TjB.Y {c : HC} {L : GA} {A : TA} {G : Gv} {T : Tv} {x o : Nat} {B : IA} (h9 : TjB c L A G T x o B) : IxR c o B := h9.2.2.2

theorem NdR.keep {Wr c c' k} (N : NdR c L A G T k) (F : Fr Wr c c') (hf : ∀ f a, f = 1500 ∨ f = 1501 ∨ f = 1502 ∨ f = 1503 ∨ f = 1504 ∨ f = 1505 ∨ f = 1506 ∨ f = 1507 ∨ f = 2301 ∨ f = 2302 → ¬ Wr f a) (hq : ¬ Wr 0 (A.cd k)) : NdR c' L A G T k :=
  ⟨by rw [F.kd _ N.l]; exact N.k, Nat.lt_of_lt_of_le N.l F.sz, by rw [F.fr _ _ N.l (hf _ _ (by simp))]; exact N.p, by rw [F.fi _ _ N.l (hf _ _ (by simp))]; exact N.nu, by rw [F.fi _ _ N.l (hf _ _ (by simp))]; exact N.ix,
   by rw [F.fi _ _ N.l (hf _ _ (by simp))]; exact N.dp, by rw [F.fr _ _ N.l (hf _ _ (by simp))]; exact N.pa, fun hh => by rw [F.fi _ _ N.l (hf _ _ (by simp))]; exact N.pl hh, by rw [F.fr _ _ N.l (hf _ _ (by simp))]; exact N.ch,
   N.ls.keep F (hf _ _ (by simp)) (hf _ _ (by simp)) hq, by rw [F.fr _ _ N.l (hf _ _ (by simp))]; exact N.va, by rw [F.kd _ N.vl]; exact N.vk, Nat.lt_of_lt_of_le N.vl F.sz⟩

theorem TrR.keep {Wr c c'} (R : TrR c L A G T x) (F : Fr Wr c c') (hf : ∀ f a, f = 1500 ∨ f = 1501 ∨ f = 1502 ∨ f = 1503 ∨ f = 1504 ∨ f = 1505 ∨ f = 1506 ∨ f = 1507 ∨ f = 2301 ∨ f = 2302 → ¬ Wr f a) (h5 : ¬ Wr 105 x) (h6 : ¬ Wr 1602 A.t) (hr : ¬ Wr 0 A.rd) (hq : ∀ k, k < T.n → ¬ Wr 0 (A.cd k)) : TrR c' L A G T x :=
  ⟨by rw [F.kd _ R.xl]; exact R.xk, Nat.lt_of_lt_of_le R.xl F.sz, by rw [F.fr _ _ R.xl h5]; exact R.xt, by rw [F.kd _ R.tl]; exact R.tk, Nat.lt_of_lt_of_le R.tl F.sz, by rw [F.fr _ _ R.tl h6]; exact R.rw_,
   R.rl.keep F (hf _ _ (by simp)) (hf _ _ (by simp)) hr, fun k hk => (R.nd k hk).keep F hf (hq k hk)⟩

theorem IxR.keep {Wr c c'} {B : IA} (Y : IxR c o B) (ho : o < c.sz) (F : Fr Wr c c') (hf : ∀ f, f = 1701 ∨ f = 1702 ∨ f = 1703 ∨ f = 1704 ∨ f = 1705 ∨ f = 1706 → ¬ Wr f o) : IxR c' o B :=
  ⟨by rw [F.fr _ _ ho (hf _ (by simp))]; exact Y.f1, by rw [F.fr _ _ ho (hf _ (by simp))]; exact Y.f2, by rw [F.fr _ _ ho (hf _ (by simp))]; exact Y.f3, by rw [F.fr _ _ ho (hf _ (by simp))]; exact Y.f4, by rw [F.fr _ _ ho (hf _ (by simp))]; exact Y.f5, by rw [F.fr _ _ ho (hf _ (by simp))]; exact Y.f6,
   by rw [F.kd _ Y.l1]; exact Y.k1, by rw [F.kd _ Y.l2]; exact Y.k2, by rw [F.kd _ Y.l3]; exact Y.k3, by rw [F.kd _ Y.l4]; exact Y.k4, by rw [F.kd _ Y.l5]; exact Y.k5, by rw [F.kd _ Y.l6]; exact Y.k6,
   Nat.lt_of_lt_of_le Y.l1 F.sz, Nat.lt_of_lt_of_le Y.l2 F.sz, Nat.lt_of_lt_of_le Y.l3 F.sz, Nat.lt_of_lt_of_le Y.l4 F.sz, Nat.lt_of_lt_of_le Y.l5 F.sz, Nat.lt_of_lt_of_le Y.l6 F.sz, Y.d12, Y.d13, Y.d14, Y.d23, Y.d24, Y.d34, Y.d56⟩

theorem TjB.keep {c c' : HC} {B : IA} (K : TjB c L A G T x o B) (F : Fr (WT B o) c c') : TjB c' L A G T x o B := by
  have nf : ∀ f a, f ≠ 0 → f ≠ 1707 → f ≠ 1708 → f ≠ 1709 → ¬ WT B o f a := fun f a h0 h1 h2 h3 => WT.nof h0 h1 h2 h3
  refine ⟨K.S.keep F ⟨fun a => ⟨nf _ _ (by decide) (by decide) (by decide) (by decide), nf _ _ (by decide) (by decide) (by decide) (by decide), nf _ _ (by decide) (by decide) (by decide) (by decide), nf _ _ (by decide) (by decide) (by decide) (by decide), nf _ _ (by decide) (by decide) (by decide) (by decide), nf _ _ (by decide) (by decide) (by decide) (by decide)⟩, fun s hs => nf _ _ (by decide) (by decide) (by decide) (by decide), fun p hp => ⟨nf _ _ (by decide) (by decide) (by decide) (by decide), nf _ _ (by decide) (by decide) (by decide) (by decide), WT.noq K.Y (K.S.pr p hp).sl.dk, WT.noa K.Y (K.S.pr p hp).k2 (by decide)⟩⟩,
    K.R.keep F (by
      rintro f a (rfl | rfl | rfl | rfl | rfl | rfl | rfl | rfl | rfl | rfl) <;> exact nf _ _ (by decide) (by decide) (by decide) (by decide)) (nf _ _ (by decide) (by decide) (by decide) (by decide)) (nf _ _ (by decide) (by decide) (by decide) (by decide)) (WT.noq K.Y K.R.rl.dk) (fun k hk => WT.noq K.Y (K.R.nd k hk).ls.dk),
    ⟨by rw [F.kd _ K.J.l]; exact K.J.k, Nat.lt_of_lt_of_le K.J.l F.sz, by rw [F.fr _ _ K.J.l (nf _ _ (by decide) (by decide) (by decide) (by decide))]; exact K.J.mx⟩,
    K.Y.keep K.J.l F (by rintro f (rfl | rfl | rfl | rfl | rfl | rfl) <;> exact nf _ _ (by decide) (by decide) (by decide) (by decide))⟩
end
