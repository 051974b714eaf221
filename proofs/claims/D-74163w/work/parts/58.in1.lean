/-! plain: ti cn -/
set_option maxRecDepth 100000
section
/-- a tree in numbers: how many nodes; productions, own numbers, parents, places, children, depths. -/
def Tv : Type := Nat × (Nat → Nat) × (Nat → Int32) × (Nat → Option Nat) × (Nat → Nat) × (Nat → Nat → Nat) × (Nat → Nat)
def Tv.n (T : Tv) : Nat := T.1
def Tv.pd (T : Tv) : Nat → Nat := T.2.1
def Tv.nu (T : Tv) : Nat → Int32 := T.2.2.1
def Tv.pa (T : Tv) : Nat → Option Nat := T.2.2.2.1
def Tv.pl (T : Tv) : Nat → Nat := T.2.2.2.2.1
def Tv.kd (T : Tv) : Nat → Nat → Nat := T.2.2.2.2.2.1
def Tv.dp (T : Tv) : Nat → Nat := T.2.2.2.2.2.2
def Tv.sm (T : Tv) (G : Gv) (k : Nat) : Nat := G.sy (T.pd k) 0

def Tv.WF (T : Tv) (G : Gv) : Prop :=
  (1 ≤ T.n) ∧
  (T.n ≤ 40) ∧
  (∀ k, k < T.n → T.pd k < G.nP) ∧
  (∀ k j, k < T.n → 1 ≤ j → j ≤ G.kn (T.pd k) → T.kd k j < T.n ∧ T.pa (T.kd k j) = some k ∧ T.pl (T.kd k j) = j ∧ T.sm G (T.kd k j) = G.sy (T.pd k) j) ∧
  (∀ k q, k < T.n → T.pa k = some q → q < T.n ∧ 1 ≤ T.pl k ∧ T.pl k ≤ G.kn (T.pd q) ∧ T.kd q (T.pl k) = k) ∧
  (∀ k, k < T.n → (T.pa k = none ↔ k = 0))
theorem Tv.WF.n1 {T : Tv} {G : Gv} (h9 : Tv.WF T G) : 1 ≤ T.n := h9.1
theorem Tv.WF.n40 {T : Tv} {G : Gv} (h9 : Tv.WF T G) : T.n ≤ 40 := h9.2.1
theorem Tv.WF.pd {T : Tv} {G : Gv} (h9 : Tv.WF T G) : ∀ k, k < T.n → T.pd k < G.nP := h9.2.2.1
theorem Tv.WF.kid {T : Tv} {G : Gv} (h9 : Tv.WF T G) : ∀ k j, k < T.n → 1 ≤ j → j ≤ G.kn (T.pd k) → T.kd k j < T.n ∧ T.pa (T.kd k j) = some k ∧ T.pl (T.kd k j) = j ∧ T.sm G (T.kd k j) = G.sy (T.pd k) j := h9.2.2.2.1
theorem Tv.WF.par {T : Tv} {G : Gv} (h9 : Tv.WF T G) : ∀ k q, k < T.n → T.pa k = some q → q < T.n ∧ 1 ≤ T.pl k ∧ T.pl k ≤ G.kn (T.pd q) ∧ T.kd q (T.pl k) = k := h9.2.2.2.2.1
theorem Tv.WF.root {T : Tv} {G : Gv} (h9 : Tv.WF T G) : ∀ k, k < T.n → (T.pa k = none ↔ k = 0) := h9.2.2.2.2.2

variable {G : Gv} {T : Tv}
/-- an instance; where its rule is; as which occ; what it asks; which instance an occ is. -/
abbrev Tv.is (T : Tv) (G : Gv) (i : Nat) : Prop := i / 8 < T.n ∧ i % 8 < G.cnt (T.sm G (i / 8))
def Tv.rA (T : Tv) (G : Gv) (i : Nat) : Option Nat := if G.ins (T.sm G (i / 8)) ≤ i % 8 then some (i / 8) else T.pa (i / 8)
def Tv.oO (T : Tv) (G : Gv) (i : Nat) : Nat := if G.ins (T.sm G (i / 8)) ≤ i % 8 then i % 8 else 8 * T.pl (i / 8) + i % 8
def Tv.ask (T : Tv) (G : Gv) (i : Nat) : Int32 := match T.rA G i with
  | some q => G.ask (T.pd q) (T.oO G i)
  | none => 0
def Tv.atP (T : Tv) (q pos : Nat) : Nat := if pos = 0 then q else T.kd q pos
def Tv.oth (T : Tv) (G : Gv) (i o : Nat) : Nat := match T.rA G i with
  | some q => 8 * T.atP q (o / 8) + o % 8
  | none => 0
def Tv.ed (T : Tv) (G : Gv) (i j : Nat) : Prop := T.is G i ∧ ∃ o, o < 32 ∧ bt (T.ask G i) o = true ∧ T.oth G i o = j

theorem Tv.WF.smS (X : T.WF G) (W : G.WF) {k : Nat} (hk : k < T.n) : T.sm G k < G.nS := W.sy _ 0 (X.pd k hk) (Nat.zero_le _)

theorem Tv.WF.rAlt (X : T.WF G) {i q : Nat} (hi : i / 8 < T.n) (h : T.rA G i = some q) : q < T.n := by
  unfold Tv.rA at h
  split at h
  · have := Option.some.inj h; omega
  · exact (X.par _ _ hi h).1

theorem Tv.WF.oOlt (X : T.WF G) (W : G.WF) {i q : Nat} (hi : T.is G i) (h : T.rA G i = some q) : G.tl (T.pd q) (T.oO G i) := by
  have hs := X.smS W hi.1
  have h4 := W.ins _ hs
  have hc := W.cnt8 hs
  have h2 := hi.2
  unfold Tv.rA at h
  unfold Tv.oO
  by_cases hc' : G.ins (T.sm G (i / 8)) ≤ i % 8
  · rw [if_pos hc'] at h ⊢
    have e := Option.some.inj h
    subst e
    have e0 : i % 8 / 8 = 0 := by omega
    have e1 : i % 8 % 8 = i % 8 := by omega
    refine ⟨⟨by omega, by rw [e0]; exact Nat.zero_le _, by rw [e0, e1]; exact h2⟩, ?_⟩
    rw [e0, e1]
    exact ⟨fun _ => by omega, fun _ => hc'⟩
  · rw [if_neg hc'] at h ⊢
    obtain ⟨p1, p2, p3, p4⟩ := X.par _ _ hi.1 h
    have h3 := W.kn _ (X.pd q p1)
    obtain ⟨_, _, _, k4⟩ := X.kid q _ p1 p2 p3
    rw [p4] at k4
    have e0 : (8 * T.pl (i / 8) + i % 8) / 8 = T.pl (i / 8) := by omega
    have e1 : (8 * T.pl (i / 8) + i % 8) % 8 = i % 8 := by omega
    refine ⟨⟨by omega, by rw [e0]; exact p3, by rw [e0, e1, ← k4]; exact h2⟩, ?_⟩
    rw [e0, e1, ← k4]
    exact ⟨fun hh => absurd hh hc', fun hh => by omega⟩

/-- what is asked is an instance. -/
theorem Tv.WF.oth_is (X : T.WF G) (W : G.WF) {i o : Nat} (hi : T.is G i) (hb : bt (T.ask G i) o = true) : ∃ q, T.rA G i = some q ∧ q < T.n ∧ G.oc (T.pd q) o ∧ T.oth G i o = 8 * T.atP q (o / 8) + o % 8 ∧ T.atP q (o / 8) < T.n ∧ T.is G (T.oth G i o) := by
  cases hr : T.rA G i with
  | none =>
    unfold Tv.ask at hb
    rw [hr] at hb
    simp [bt_zero] at hb
  | some q =>
    have hq := X.rAlt hi.1 hr
    unfold Tv.ask at hb
    rw [hr] at hb
    have hoc : G.oc (T.pd q) o := by
      simp only [Gv.ask] at hb
      cases hl : G.rl (T.pd q) (T.oO G i) with
      | none => rw [hl] at hb; simp [bt_zero] at hb
      | some e => rw [hl] at hb; exact W.rb _ _ e o (X.pd q hq) hl hb
    have h32 := hoc.1
    have e : T.oth G i o = 8 * T.atP q (o / 8) + o % 8 := by unfold Tv.oth; rw [hr]
    have hat : T.atP q (o / 8) < T.n ∧ T.sm G (T.atP q (o / 8)) = G.sy (T.pd q) (o / 8) := by
      unfold Tv.atP
      split
      · next h0 => exact ⟨hq, by rw [h0]; rfl⟩
      · next h0 =>
        obtain ⟨a, _, _, d⟩ := X.kid q (o / 8) hq (by omega) hoc.2.1
        exact ⟨a, d⟩
    have hc := W.cnt8 (W.ocS (X.pd q hq) hoc)
    have h3 := hoc.2.2
    refine ⟨q, rfl, hq, hoc, e, hat.1, ?_⟩
    rw [e]
    have e0 : (8 * T.atP q (o / 8) + o % 8) / 8 = T.atP q (o / 8) := by omega
    have e1 : (8 * T.atP q (o / 8) + o % 8) % 8 = o % 8 := by omega
    exact ⟨by rw [e0]; exact hat.1, by rw [e0, e1, hat.2]; exact h3⟩

theorem Tv.WF.edV (X : T.WF G) (W : G.WF) {i j : Nat} (h : T.ed G i j) : T.is G i ∧ T.is G j := by
  obtain ⟨h1, o, h2, h3, rfl⟩ := h
  obtain ⟨_, _, _, _, _, _, h4⟩ := X.oth_is W h1 h3
  exact ⟨h1, h4⟩
theorem Tv.WF.isLt (X : T.WF G) {i : Nat} (h : T.is G i) : i < 8 * T.n := by
  have := h.1; omega
end
section
/-- where a tree's things lie. -/
def TA : Type := Nat × Nat × Nat × Nat × (Nat → Nat) × (Nat → Nat) × (Nat → Nat) × (Nat → Nat) × (Nat → Nat)
def TA.t (A : TA) : Nat := A.1
def TA.rl (A : TA) : Nat := A.2.1
def TA.rd (A : TA) : Nat := A.2.2.1
def TA.rm (A : TA) : Nat := A.2.2.2.1
def TA.r (A : TA) : Nat → Nat := A.2.2.2.2.1
def TA.cl (A : TA) : Nat → Nat := A.2.2.2.2.2.1
def TA.cd (A : TA) : Nat → Nat := A.2.2.2.2.2.2.1
def TA.cm (A : TA) : Nat → Nat := A.2.2.2.2.2.2.2.1
def TA.va (A : TA) : Nat → Nat := A.2.2.2.2.2.2.2.2

def NdR (c : HC) (L : GA) (A : TA) (G : Gv) (T : Tv) (k : Nat) : Prop :=
  ((c.kd (A.r k)).1 = 15) ∧
  (A.r k < c.sz) ∧
  (c.fr 1500 (A.r k) = some (L.pa (T.pd k))) ∧
  (c.fi 1501 (A.r k) = T.nu k) ∧
  (c.fi 1502 (A.r k) = I k) ∧
  (c.fi 1503 (A.r k) = I (T.dp k)) ∧
  (c.fr 1504 (A.r k) = (T.pa k).map A.r) ∧
  (T.pa k ≠ none → c.fi 1505 (A.r k) = I (T.pl k)) ∧
  (c.fr 1506 (A.r k) = some (A.cl k)) ∧
  (Ls c (A.cl k) (A.cd k) (A.cm k) (G.kn (T.pd k)) (fun j => A.r (T.kd k (j + 1)))) ∧
  (c.fr 1507 (A.r k) = some (A.va k)) ∧
  (c.kd (A.va k) = (40, 8)) ∧
  (A.va k < c.sz)
theorem NdR.k {c : HC} {L : GA} {A : TA} {G : Gv} {T : Tv} {k : Nat} (h9 : NdR c L A G T k) : (c.kd (A.r k)).1 = 15 := h9.1
theorem NdR.l {c : HC} {L : GA} {A : TA} {G : Gv} {T : Tv} {k : Nat} (h9 : NdR c L A G T k) : A.r k < c.sz := h9.2.1
theorem NdR.p {c : HC} {L : GA} {A : TA} {G : Gv} {T : Tv} {k : Nat} (h9 : NdR c L A G T k) : c.fr 1500 (A.r k) = some (L.pa (T.pd k)) := h9.2.2.1
theorem NdR.nu {c : HC} {L : GA} {A : TA} {G : Gv} {T : Tv} {k : Nat} (h9 : NdR c L A G T k) : c.fi 1501 (A.r k) = T.nu k := h9.2.2.2.1
theorem NdR.ix {c : HC} {L : GA} {A : TA} {G : Gv} {T : Tv} {k : Nat} (h9 : NdR c L A G T k) : c.fi 1502 (A.r k) = I k := h9.2.2.2.2.1
theorem NdR.dp {c : HC} {L : GA} {A : TA} {G : Gv} {T : Tv} {k : Nat} (h9 : NdR c L A G T k) : c.fi 1503 (A.r k) = I (T.dp k) := h9.2.2.2.2.2.1
theorem NdR.pa {c : HC} {L : GA} {A : TA} {G : Gv} {T : Tv} {k : Nat} (h9 : NdR c L A G T k) : c.fr 1504 (A.r k) = (T.pa k).map A.r := h9.2.2.2.2.2.2.1
theorem NdR.pl {c : HC} {L : GA} {A : TA} {G : Gv} {T : Tv} {k : Nat} (h9 : NdR c L A G T k) : T.pa k ≠ none → c.fi 1505 (A.r k) = I (T.pl k) := h9.2.2.2.2.2.2.2.1
theorem NdR.ch {c : HC} {L : GA} {A : TA} {G : Gv} {T : Tv} {k : Nat} (h9 : NdR c L A G T k) : c.fr 1506 (A.r k) = some (A.cl k) := h9.2.2.2.2.2.2.2.2.1
theorem NdR.ls {c : HC} {L : GA} {A : TA} {G : Gv} {T : Tv} {k : Nat} (h9 : NdR c L A G T k) : Ls c (A.cl k) (A.cd k) (A.cm k) (G.kn (T.pd k)) (fun j => A.r (T.kd k (j + 1))) := h9.2.2.2.2.2.2.2.2.2.1
theorem NdR.va {c : HC} {L : GA} {A : TA} {G : Gv} {T : Tv} {k : Nat} (h9 : NdR c L A G T k) : c.fr 1507 (A.r k) = some (A.va k) := h9.2.2.2.2.2.2.2.2.2.2.1
theorem NdR.vk {c : HC} {L : GA} {A : TA} {G : Gv} {T : Tv} {k : Nat} (h9 : NdR c L A G T k) : c.kd (A.va k) = (40, 8) := h9.2.2.2.2.2.2.2.2.2.2.2.1
theorem NdR.vl {c : HC} {L : GA} {A : TA} {G : Gv} {T : Tv} {k : Nat} (h9 : NdR c L A G T k) : A.va k < c.sz := h9.2.2.2.2.2.2.2.2.2.2.2.2

def TrR (c : HC) (L : GA) (A : TA) (G : Gv) (T : Tv) (x : Nat) : Prop :=
  ((c.kd x).1 = 1) ∧
  (x < c.sz) ∧
  (c.fr 105 x = some A.t) ∧
  ((c.kd A.t).1 = 16) ∧
  (A.t < c.sz) ∧
  (c.fr 1602 A.t = some A.rl) ∧
  (Ls c A.rl A.rd A.rm T.n A.r) ∧
  (∀ k, k < T.n → NdR c L A G T k)
theorem TrR.xk {c : HC} {L : GA} {A : TA} {G : Gv} {T : Tv} {x : Nat} (h9 : TrR c L A G T x) : (c.kd x).1 = 1 := h9.1
theorem TrR.xl {c : HC} {L : GA} {A : TA} {G : Gv} {T : Tv} {x : Nat} (h9 : TrR c L A G T x) : x < c.sz := h9.2.1
theorem TrR.xt {c : HC} {L : GA} {A : TA} {G : Gv} {T : Tv} {x : Nat} (h9 : TrR c L A G T x) : c.fr 105 x = some A.t := h9.2.2.1
theorem TrR.tk {c : HC} {L : GA} {A : TA} {G : Gv} {T : Tv} {x : Nat} (h9 : TrR c L A G T x) : (c.kd A.t).1 = 16 := h9.2.2.2.1
theorem TrR.tl {c : HC} {L : GA} {A : TA} {G : Gv} {T : Tv} {x : Nat} (h9 : TrR c L A G T x) : A.t < c.sz := h9.2.2.2.2.1
theorem TrR.rw_ {c : HC} {L : GA} {A : TA} {G : Gv} {T : Tv} {x : Nat} (h9 : TrR c L A G T x) : c.fr 1602 A.t = some A.rl := h9.2.2.2.2.2.1
theorem TrR.rl {c : HC} {L : GA} {A : TA} {G : Gv} {T : Tv} {x : Nat} (h9 : TrR c L A G T x) : Ls c A.rl A.rd A.rm T.n A.r := h9.2.2.2.2.2.2.1
theorem TrR.nd {c : HC} {L : GA} {A : TA} {G : Gv} {T : Tv} {x : Nat} (h9 : TrR c L A G T x) : ∀ k, k < T.n → NdR c L A G T k := h9.2.2.2.2.2.2.2

variable {G : Gv} {T : Tv} {h : AH} {L : GA} {A : TA} {x o : Nat}

theorem px_kind (X : T.WF G) (W : G.WF) (S : GS h.c L G) (R : TrR h.c L A G T x) {k : Nat} (hk : k < T.n) {Q : Option Nat → AH → Prop} (hQ : Q (some (L.sa (T.sm G k))) h) : wp_X15_kind (A.r k) h Q := by
  have N := R.nd k hk
  have P := S.pr _ (X.pd k hk)
  have e1 : h.fr 1500 (A.r k) = some (L.pa (T.pd k)) := N.p
  have e2 : h.fr 701 (L.pa (T.pd k)) = some (L.ql (T.pd k)) := P.sf
  unfold wp_X15_kind
  rw [e1, adr_some, e2, adr_some]
  refine ⟨nn_of rfl N.k, nn_of rfl P.k, nn_of rfl P.sl.k, ?_⟩
  refine px_sym (h := h.srm 0 0) P (k := 0) (Nat.zero_le _) (pu ⟨.inr (nn_of rfl (S.sy _ (X.smS W hk)).k), hQ⟩)

/-- an object of instances of main object x. -/
def InO (c : HC) (o x : Nat) : Prop :=
  ((c.kd o).1 = 17) ∧
  (o < c.sz) ∧
  (c.fr 1712 o = some x)
theorem InO.k {c : HC} {o x : Nat} (h9 : InO c o x) : (c.kd o).1 = 17 := h9.1
theorem InO.l {c : HC} {o x : Nat} (h9 : InO c o x) : o < c.sz := h9.2.1
theorem InO.mx {c : HC} {o x : Nat} (h9 : InO c o x) : c.fr 1712 o = some x := h9.2.2

theorem px_nodeOf (R : TrR h.c L A G T x) (X : T.WF G) (J : InO h.c o x) {i : Nat} (hi : i / 8 < T.n) (hi2 : i < 2147483648) {Q : Option Nat → AH → Prop} (hQ : Q (some (A.r (i / 8))) h) : wp_X17_nodeOf o (I i) h Q := by
  have e1 : h.fr 1712 o = some x := J.mx
  have e2 : h.fr 105 x = some A.t := R.xt
  have e3 : h.fr 1602 A.t = some A.rl := R.rw_
  unfold wp_X17_nodeOf
  rw [e1, adr_some, e2, adr_some, e3, adr_some]
  refine ⟨nn_of rfl J.k, nn_of rfl R.xk, nn_of rfl R.tk, nn_of rfl R.rl.k, ?_⟩
  (try simp (disch := omega) only [L_le, le_L, L_lt, lt_L, eq_L, L_eq, I_le, I_lt, I_eq, I_ni, add_L, L_add, I_add, mul_L, L_mul, I_mul, sub_L, L_sub, I_sub, div_L, rem_L])
  refine pc_get (h := h.srm 0 0) R.rl hi (pu ⟨.inr (nn_of rfl (R.nd _ hi).k), hQ⟩)

theorem px_is (W : G.WF) (X : T.WF G) (S : GS h.c L G) (R : TrR h.c L A G T x) (J : InO h.c o x) {i : Nat} (hi : i < 8 * T.n) {Q : Int32 → AH → Prop} (hQ : Q (if T.is G i then 1 else 0) h) : wp_X17_is o (I i) h Q := by
  have h40 := X.n40
  have hn : i / 8 < T.n := by omega
  have hs := X.smS W hn
  have hc := W.cnt8 hs
  have Y := S.sy _ hs
  refine ⟨nn_of rfl J.k, ?_⟩
  refine px_nodeOf (h := h.srm 0 0) R X J hn (by omega) (pu ⟨nn_of rfl (R.nd _ hn).k, ?_⟩)
  refine px_kind (h := h.srm 0 0) X W S R hn (pu ⟨nn_of rfl Y.k, ?_⟩)
  refine px_count (h := h.srm 0 0) Y (pu ?_)
  rintro m rfl
  (try simp (disch := omega) only [L_le, le_L, L_lt, lt_L, eq_L, L_eq, I_le, I_lt, I_eq, I_ni, add_L, L_add, I_add, mul_L, L_mul, I_mul, sub_L, L_sub, I_sub, div_L, rem_L])
  by_cases hc' : G.cnt (T.sm G (i / 8)) ≤ i % 8
  · rw [if_pos hc']
    rw [if_neg (fun hh : T.is G i => by have := hh.2; omega)] at hQ
    exact ⟨.inl rfl, hQ⟩
  · rw [if_neg hc']
    rw [if_pos (show T.is G i from ⟨hn, by omega⟩)] at hQ
    exact ⟨.inr rfl, hQ⟩

theorem px_ruleAt (W : G.WF) (X : T.WF G) (S : GS h.c L G) (R : TrR h.c L A G T x) (J : InO h.c o x) {i : Nat} (hi : i < 8 * T.n) {Q : Option Nat → AH → Prop} (hQ : Q ((T.rA G i).map A.r) h) : wp_X17_ruleAt o (I i) h Q := by
  have h40 := X.n40
  have hn : i / 8 < T.n := by omega
  have hs := X.smS W hn
  have h4 := W.ins _ hs
  have Y := S.sy _ hs
  have N := R.nd _ hn
  have ei : h.fi 602 (L.sa (T.sm G (i / 8))) = I (G.ins (T.sm G (i / 8))) := Y.ins
  refine ⟨nn_of rfl J.k, ?_⟩
  refine px_nodeOf (h := h.srm 0 0) R X J hn (by omega) (pu ⟨nn_of rfl N.k, ?_⟩)
  refine px_kind (h := h.srm 0 0) X W S R hn (pu ⟨nn_of rfl Y.k, ?_⟩)
  rw [adr_some, ei]
  by_cases hc : i % 8 < G.ins (T.sm G (i / 8))
  · refine brT (by (first | omega | ((try simp (disch := omega) only [L_le, le_L, L_lt, lt_L, eq_L, L_eq, I_le, I_lt, I_eq, I_ni, add_L, L_add, I_add, mul_L, L_mul, I_mul, sub_L, L_sub, I_sub, div_L, rem_L]); done) | ((try simp (disch := omega) only [L_le, le_L, L_lt, lt_L, eq_L, L_eq, I_le, I_lt, I_eq, I_ni, add_L, L_add, I_add, mul_L, L_mul, I_mul, sub_L, L_sub, I_sub, div_L, rem_L]); omega))) ⟨nn_of rfl J.k, ?_⟩
    refine px_nodeOf (h := h.srm 0 0) R X J hn (by omega) (pu ⟨nn_of rfl N.k, ?_⟩)
    have ep : h.fr 1504 (A.r (i / 8)) = (T.pa (i / 8)).map A.r := N.pa
    rw [adr_some, ep]
    unfold Tv.rA at hQ
    rw [if_neg (by omega)] at hQ; exact hQ
  · refine brF (by (first | omega | ((try simp (disch := omega) only [L_le, le_L, L_lt, lt_L, eq_L, L_eq, I_le, I_lt, I_eq, I_ni, add_L, L_add, I_add, mul_L, L_mul, I_mul, sub_L, L_sub, I_sub, div_L, rem_L]); done) | ((try simp (disch := omega) only [L_le, le_L, L_lt, lt_L, eq_L, L_eq, I_le, I_lt, I_eq, I_ni, add_L, L_add, I_add, mul_L, L_mul, I_mul, sub_L, L_sub, I_sub, div_L, rem_L]); omega))) ⟨nn_of rfl J.k, ?_⟩
    refine px_nodeOf (h := h.srm 0 0) R X J hn (by omega) (pu ?_)
    unfold Tv.rA at hQ
    rw [if_pos (by omega)] at hQ; exact hQ

theorem px_occOf (W : G.WF) (X : T.WF G) (S : GS h.c L G) (R : TrR h.c L A G T x) (J : InO h.c o x) {i : Nat} (hi : i < 8 * T.n) {q : Nat} (hq : T.rA G i = some q) {Q : Int32 → AH → Prop} (hQ : Q (I (T.oO G i)) h) : wp_X17_occOf o (I i) h Q := by
  have h40 := X.n40
  have hn : i / 8 < T.n := by omega
  have hs := X.smS W hn
  have h4 := W.ins _ hs
  have Y := S.sy _ hs
  have N := R.nd _ hn
  have ei : h.fi 602 (L.sa (T.sm G (i / 8))) = I (G.ins (T.sm G (i / 8))) := Y.ins
  refine ⟨nn_of rfl J.k, ?_⟩
  refine px_nodeOf (h := h.srm 0 0) R X J hn (by omega) (pu ⟨nn_of rfl N.k, ?_⟩)
  refine px_kind (h := h.srm 0 0) X W S R hn (pu ⟨nn_of rfl Y.k, ?_⟩)
  rw [adr_some, ei]
  by_cases hc : i % 8 < G.ins (T.sm G (i / 8))
  · refine brT (by (first | omega | ((try simp (disch := omega) only [L_le, le_L, L_lt, lt_L, eq_L, L_eq, I_le, I_lt, I_eq, I_ni, add_L, L_add, I_add, mul_L, L_mul, I_mul, sub_L, L_sub, I_sub, div_L, rem_L]); done) | ((try simp (disch := omega) only [L_le, le_L, L_lt, lt_L, eq_L, L_eq, I_le, I_lt, I_eq, I_ni, add_L, L_add, I_add, mul_L, L_mul, I_mul, sub_L, L_sub, I_sub, div_L, rem_L]); omega))) ⟨nn_of rfl J.k, ?_⟩
    refine px_nodeOf (h := h.srm 0 0) R X J hn (by omega) (pu ⟨nn_of rfl N.k, ?_⟩)
    unfold Tv.rA at hq
    rw [if_neg (by omega)] at hq
    have ep : h.fi 1505 (A.r (i / 8)) = I (T.pl (i / 8)) := N.pl (by rw [hq]; simp)
    rw [adr_some, ep]
    unfold Tv.oO at hQ
    rw [if_neg (by omega)] at hQ
    (try simp (disch := omega) only [L_le, le_L, L_lt, lt_L, eq_L, L_eq, I_le, I_lt, I_eq, I_ni, add_L, L_add, I_add, mul_L, L_mul, I_mul, sub_L, L_sub, I_sub, div_L, rem_L])
    rw [show T.pl (i / 8) * 8 + i % 8 = 8 * T.pl (i / 8) + i % 8 by omega]
    exact hQ
  · refine brF (by (first | omega | ((try simp (disch := omega) only [L_le, le_L, L_lt, lt_L, eq_L, L_eq, I_le, I_lt, I_eq, I_ni, add_L, L_add, I_add, mul_L, L_mul, I_mul, sub_L, L_sub, I_sub, div_L, rem_L]); done) | ((try simp (disch := omega) only [L_le, le_L, L_lt, lt_L, eq_L, L_eq, I_le, I_lt, I_eq, I_ni, add_L, L_add, I_add, mul_L, L_mul, I_mul, sub_L, L_sub, I_sub, div_L, rem_L]); omega))) ?_
    unfold Tv.oO at hQ
    rw [if_pos (by omega)] at hQ
    (try simp (disch := omega) only [L_le, le_L, L_lt, lt_L, eq_L, L_eq, I_le, I_lt, I_eq, I_ni, add_L, L_add, I_add, mul_L, L_mul, I_mul, sub_L, L_sub, I_sub, div_L, rem_L])
    exact hQ

theorem px_askedI (W : G.WF) (X : T.WF G) (S : GS h.c L G) (R : TrR h.c L A G T x) (J : InO h.c o x) {i : Nat} (hi : T.is G i) {Q : Int32 → AH → Prop} (hQ : Q (T.ask G i) h) : wp_X17_asked o (I i) h Q := by
  have hlt := X.isLt hi
  refine ⟨nn_of rfl J.k, ?_⟩
  refine px_ruleAt (h := h.srm 0 0) W X S R J hlt (pu ?_)
  unfold Tv.ask at hQ
  cases hr : T.rA G i with
  | none =>
    rw [hr] at hQ
    exact brT rfl hQ
  | some q =>
    rw [hr] at hQ
    have hq := X.rAlt hi.1 hr
    have N := R.nd q hq
    have ep : h.fr 1500 (A.r q) = some (L.pa (T.pd q)) := N.p
    have P := S.pr _ (X.pd q hq)
    refine brF (by simp) ⟨nn_of rfl J.k, ?_⟩
    refine px_ruleAt (h := h.srm 0 0) W X S R J hlt (pu ?_)
    rw [hr]
    refine ⟨nn_of rfl N.k, nn_of rfl J.k, ?_⟩
    refine px_occOf (h := h.srm 0 0) W X S R J hlt hr (pu ?_)
    show nn h (h.fr 1500 (A.r q)) 7 ∧ _
    have ea : adr ((some q).map A.r) = A.r q := rfl
    rw [ea, ep]
    refine ⟨nn_of rfl P.k, ?_⟩
    rw [adr_some]
    exact px_asked (h := h.srm 0 0) P (X.oOlt W hi hr).1.1 (pu hQ)

theorem px_other (W : G.WF) (X : T.WF G) (S : GS h.c L G) (R : TrR h.c L A G T x) (J : InO h.c o x) {i u : Nat} (hi : T.is G i) (hb : bt (T.ask G i) u = true) {Q : Int32 → AH → Prop} (hQ : Q (I (T.oth G i u)) h) : wp_X17_other o (I i) (I u) h Q := by
  have hlt := X.isLt hi
  have h40 := X.n40
  obtain ⟨q, hr, hq, hoc, e, hat, _⟩ := X.oth_is W hi hb
  have h32 := hoc.1
  have N := R.nd q hq
  refine ⟨nn_of rfl J.k, ?_⟩
  refine px_ruleAt (h := h.srm 0 0) W X S R J hlt (pu ?_)
  rw [hr]
  refine ⟨nn_of rfl N.k, ?_⟩
  have ea : adr ((some q).map A.r) = A.r q := rfl
  rw [ea]
  (try simp (disch := omega) only [L_le, le_L, L_lt, lt_L, eq_L, L_eq, I_le, I_lt, I_eq, I_ni, add_L, L_add, I_add, mul_L, L_mul, I_mul, sub_L, L_sub, I_sub, div_L, rem_L])
  rw [e] at hQ
  have Nt := R.nd _ hat
  have ei : h.fi 1502 (A.r (T.atP q (u / 8))) = I (T.atP q (u / 8)) := Nt.ix
  have fin : ∀ r, r = some (A.r (T.atP q (u / 8))) → nn h r 15 ∧ Q (h.fi 1502 (adr r) * 8 + I (u % 8)) h := by
    rintro r rfl
    refine ⟨nn_of rfl Nt.k, ?_⟩
    rw [adr_some, ei]
    (try simp (disch := omega) only [L_le, le_L, L_lt, lt_L, eq_L, L_eq, I_le, I_lt, I_eq, I_ni, add_L, L_add, I_add, mul_L, L_mul, I_mul, sub_L, L_sub, I_sub, div_L, rem_L])
    rw [show T.atP q (u / 8) * 8 + u % 8 = 8 * T.atP q (u / 8) + u % 8 by omega]
    exact hQ
  unfold wp_X15_at
  by_cases h0 : u / 8 = 0
  · refine brT (by (first | omega | ((try simp (disch := omega) only [L_le, le_L, L_lt, lt_L, eq_L, L_eq, I_le, I_lt, I_eq, I_ni, add_L, L_add, I_add, mul_L, L_mul, I_mul, sub_L, L_sub, I_sub, div_L, rem_L]); done) | ((try simp (disch := omega) only [L_le, le_L, L_lt, lt_L, eq_L, L_eq, I_le, I_lt, I_eq, I_ni, add_L, L_add, I_add, mul_L, L_mul, I_mul, sub_L, L_sub, I_sub, div_L, rem_L]); omega))) (pu ?_)
    exact fin _ (by unfold Tv.atP; rw [if_pos h0])
  · have ec : h.fr 1506 (A.r q) = some (A.cl q) := N.ch
    refine brF (by (first | omega | ((try simp (disch := omega) only [L_le, le_L, L_lt, lt_L, eq_L, L_eq, I_le, I_lt, I_eq, I_ni, add_L, L_add, I_add, mul_L, L_mul, I_mul, sub_L, L_sub, I_sub, div_L, rem_L]); done) | ((try simp (disch := omega) only [L_le, le_L, L_lt, lt_L, eq_L, L_eq, I_le, I_lt, I_eq, I_ni, add_L, L_add, I_add, mul_L, L_mul, I_mul, sub_L, L_sub, I_sub, div_L, rem_L]); omega))) ⟨nn_of rfl N.k, ?_⟩
    show nn (h.srm 0 0) (h.fr 1506 (A.r q)) 23 ∧ wp_J12_get (adr (h.fr 1506 (A.r q))) _ _ _
    rw [ec, adr_some]
    refine ⟨nn_of rfl N.ls.k, ?_⟩
    (try simp (disch := omega) only [L_le, le_L, L_lt, lt_L, eq_L, L_eq, I_le, I_lt, I_eq, I_ni, add_L, L_add, I_add, mul_L, L_mul, I_mul, sub_L, L_sub, I_sub, div_L, rem_L])
    refine pc_get (h := (h.srm 0 0).srm 0 0) N.ls (i := u / 8 - 1) (by have := hoc.2.1; omega) ?_
    intro h6 e6
    have e6' : h6 = h.srm 0 0 := e6
    subst e6'
    have hk : T.kd q (u / 8 - 1 + 1) = T.atP q (u / 8) := by unfold Tv.atP; rw [if_neg h0, show u / 8 - 1 + 1 = u / 8 by omega]
    rw [hk]
    refine ⟨.inr (nn_of rfl Nt.k), pu ?_⟩
    exact fin _ rfl
end
