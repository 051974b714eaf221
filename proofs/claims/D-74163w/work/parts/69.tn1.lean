/-! plain: tn1 -/
set_option maxRecDepth 100000
section
variable {G : Gv} {V : Tv} {T : TS} {gv : Nat → Int32}

/-- children stand in their order, behind their parent. -/
def Tv.PO (V : Tv) (G : Gv) : Prop :=
  (∀ q j, q < V.n → 1 ≤ j → j ≤ G.kn (V.pd q) → q < V.kd q j) ∧
  (∀ q i j, q < V.n → 1 ≤ i → i < j → j ≤ G.kn (V.pd q) → V.kd q i < V.kd q j)
theorem Tv.PO.gt {V : Tv} {G : Gv} (h9 : Tv.PO V G) : ∀ q j, q < V.n → 1 ≤ j → j ≤ G.kn (V.pd q) → q < V.kd q j := h9.1
theorem Tv.PO.inc {V : Tv} {G : Gv} (h9 : Tv.PO V G) : ∀ q i j, q < V.n → 1 ≤ i → i < j → j ≤ G.kn (V.pd q) → V.kd q i < V.kd q j := h9.2

/-- how many children lie below a number. -/
def Tv.Cu (V : Tv) (G : Gv) (q m e : Nat) : Prop := m ≤ G.kn (V.pd q) ∧ (∀ j, 1 ≤ j → j ≤ m → V.kd q j < e) ∧ (∀ j, m < j → j ≤ G.kn (V.pd q) → e ≤ V.kd q j)

theorem Tv.PO.cu0 (P : V.PO G) {q : Nat} (hq : q < V.n) : V.Cu G q 0 (q + 1) :=
  ⟨Nat.zero_le _, fun j h1 h2 => by omega, fun j h1 h2 => P.gt q j hq h1 h2⟩

theorem Tv.PO.cu_hit (P : V.PO G) (X : V.WF G) {q m e : Nat} (hq : q < V.n) (C : V.Cu G q m e) (he : e < V.n) (hp : V.pa e = some q) : m + 1 ≤ G.kn (V.pd q) ∧ V.kd q (m + 1) = e ∧ V.pl e = m + 1 ∧ V.Cu G q (m + 1) (e + 1) := by
  obtain ⟨_, p2, p3, p4⟩ := X.par e q he hp
  have h1 : ¬ V.pl e ≤ m := fun hh => by have := C.2.1 _ p2 hh; omega
  have h2 : V.pl e = m + 1 := by
    by_cases h3 : m + 1 < V.pl e
    · have h4 := P.inc q (m + 1) (V.pl e) hq (by omega) h3 p3
      have h5 := C.2.2 (m + 1) (by omega) (by omega)
      omega
    · omega
  rw [h2] at p3 p4
  refine ⟨p3, p4, h2, p3, fun j h3 h4 => ?_, fun j h3 h4 => ?_⟩
  · by_cases e1 : j = m + 1
    · rw [e1, p4]; omega
    · have := C.2.1 j h3 (by omega); omega
  · have := P.inc q (m + 1) j hq (by omega) h3 h4
    omega

theorem Tv.PO.cu_miss (P : V.PO G) (X : V.WF G) {q m e : Nat} (hq : q < V.n) (C : V.Cu G q m e) (hp : V.pa e ≠ some q) : V.Cu G q m (e + 1) := by
  refine ⟨C.1, fun j h1 h2 => ?_, fun j h1 h2 => ?_⟩
  · have := C.2.1 j h1 h2; omega
  · have h3 := C.2.2 j h1 h2
    have h4 : V.kd q j ≠ e := fun e1 => hp (by rw [← e1]; exact (X.kid q j hq (by omega) h2).2.1)
    omega

/-- the codes of rules, as the twin has them. -/
def TwC (a : Nat → Int32) (G : Gv) : Prop :=
  (∀ p o, p < G.nP → o < 32 → G.rl p o = none → a (80 + 32 * p + o) = 0 ∧ a (464 + 32 * p + o) = 0 ∧ a (1232 + 32 * p + o) = 0) ∧
  (∀ p o e, p < G.nP → o < 32 → G.rl p o = some e → ∃ f, a (80 + 32 * p + o) = I f ∧ a (464 + 32 * p + o) = I (f + e.length) ∧ a (1232 + 32 * p + o) = 1 ∧ f + e.length ≤ 1100 ∧ ∀ i, i < e.length → a (1616 + (f + i)) = I (e.getD i (0, 0)).1 ∧ a (2716 + (f + i)) = I (e.getD i (0, 0)).2 ∧ (e.getD i (0, 0)).1 < 1000 ∧ (e.getD i (0, 0)).2 < 100000)
theorem TwC.cn {a : Nat → Int32} {G : Gv} (h9 : TwC a G) : ∀ p o, p < G.nP → o < 32 → G.rl p o = none → a (80 + 32 * p + o) = 0 ∧ a (464 + 32 * p + o) = 0 ∧ a (1232 + 32 * p + o) = 0 := h9.1
theorem TwC.cs {a : Nat → Int32} {G : Gv} (h9 : TwC a G) : ∀ p o e, p < G.nP → o < 32 → G.rl p o = some e → ∃ f, a (80 + 32 * p + o) = I f ∧ a (464 + 32 * p + o) = I (f + e.length) ∧ a (1232 + 32 * p + o) = 1 ∧ f + e.length ≤ 1100 ∧ ∀ i, i < e.length → a (1616 + (f + i)) = I (e.getD i (0, 0)).1 ∧ a (2716 + (f + i)) = I (e.getD i (0, 0)).2 ∧ (e.getD i (0, 0)).1 < 1000 ∧ (e.getD i (0, 0)).2 < 100000 := h9.2

/-- the twin's tree. -/
def TwI (T : TS) (G : Gv) (V : Tv) (gv : Nat → Int32) : Prop :=
  (TG (T.a 1) G) ∧
  (TwC (T.a 1) G) ∧
  (T.s 250 = I V.n) ∧
  (∀ k, k < V.n → T.a 19 k = I (V.pd k)) ∧
  (∀ k, k < V.n → T.a 20 k = V.nu k) ∧
  (∀ k, k < V.n → T.a 21 k = oI (V.pa k)) ∧
  (∀ a, a < 4 → T.a 25 a = gv a)
theorem TwI.A {T : TS} {G : Gv} {V : Tv} {gv : Nat → Int32} (h9 : TwI T G V gv) : TG (T.a 1) G := h9.1
theorem TwI.C {T : TS} {G : Gv} {V : Tv} {gv : Nat → Int32} (h9 : TwI T G V gv) : TwC (T.a 1) G := h9.2.1
theorem TwI.n {T : TS} {G : Gv} {V : Tv} {gv : Nat → Int32} (h9 : TwI T G V gv) : T.s 250 = I V.n := h9.2.2.1
theorem TwI.pd {T : TS} {G : Gv} {V : Tv} {gv : Nat → Int32} (h9 : TwI T G V gv) : ∀ k, k < V.n → T.a 19 k = I (V.pd k) := h9.2.2.2.1
theorem TwI.nu {T : TS} {G : Gv} {V : Tv} {gv : Nat → Int32} (h9 : TwI T G V gv) : ∀ k, k < V.n → T.a 20 k = V.nu k := h9.2.2.2.2.1
theorem TwI.pa {T : TS} {G : Gv} {V : Tv} {gv : Nat → Int32} (h9 : TwI T G V gv) : ∀ k, k < V.n → T.a 21 k = oI (V.pa k) := h9.2.2.2.2.2.1
theorem TwI.gi {T : TS} {G : Gv} {V : Tv} {gv : Nat → Int32} (h9 : TwI T G V gv) : ∀ a, a < 4 → T.a 25 a = gv a := h9.2.2.2.2.2.2

theorem TwI.keep {A S : List Nat} {U : TS} (I : TwI T G V gv) (F : Tch A S T U) (h1 : 1 ∉ A) (h2 : 19 ∉ A) (h3 : 20 ∉ A) (h4 : 21 ∉ A) (h5 : 25 ∉ A) (h6 : 250 ∉ S) : TwI U G V gv :=
  ⟨by rw [F.a _ h1]; exact I.A, by rw [F.a _ h1]; exact I.C, by rw [F.s _ h6]; exact I.n, by rw [F.a _ h2]; exact I.pd, by rw [F.a _ h3]; exact I.nu, by rw [F.a _ h4]; exact I.pa, by rw [F.a _ h5]; exact I.gi⟩

theorem Tv.WF.paL (X : V.WF G) {e : Nat} (he : e < V.n) : ∀ j, V.pa e = some j → j < 1000 := fun j hj => by
  have := (X.par e j he hj).1
  have := X.n40
  omega

theorem pt_child (W : G.WF) (X : V.WF G) (P : V.PO G) (J : TwI T G V gv) {q j : Nat} (hq : q < V.n) (hj : j < G.kn (V.pd q)) {Q : Int32 → TS → Prop} (h : Q (I (V.kd q (j + 1))) T) : wp_X1_child (I q) (I j) T Q := by
  have h40 := X.n40
  have hk3 := W.kn _ (X.pd q hq)
  unfold wp_X1_child
  (try simp (disch := omega) only [L_le, le_L, L_lt, lt_L, eq_L, L_eq, I_le, I_lt, I_eq, I_ni, add_L, L_add, I_add, mul_L, L_mul, I_mul, sub_L, L_sub, I_sub, div_L, rem_L])
  refine tlp_cnt (V.n - (q + 1)) (fun k s T' => T' = T ∧ ∃ m, s = (I (j - m), I (q + 1 + k)) ∧ m ≤ j ∧ V.Cu G q m (q + 1 + k)) ⟨rfl, 0, rfl, Nat.zero_le _, P.cu0 hq⟩ ?_
  rintro k _ _ K hk ⟨rfl, m, rfl, hm, C⟩ hK
  have c1 := C.2.2 (j + 1) (by omega) (by omega)
  have c2 := (X.kid q (j + 1) hq (by omega) (by omega)).1
  have hkn : q + 1 + k < V.n := by omega
  rw [J.n]
  refine brF (by (first | omega | ((try simp (disch := omega) only [L_le, le_L, L_lt, lt_L, eq_L, L_eq, I_le, I_lt, I_eq, I_ni, add_L, L_add, I_add, mul_L, L_mul, I_mul, sub_L, L_sub, I_sub, div_L, rem_L]); done) | ((try simp (disch := omega) only [L_le, le_L, L_lt, lt_L, eq_L, L_eq, I_le, I_lt, I_eq, I_ni, add_L, L_add, I_add, mul_L, L_mul, I_mul, sub_L, L_sub, I_sub, div_L, rem_L]); omega))) ⟨tix_I rfl (by show _ < 40; omega) (by decide), ?_⟩
  rw [I_ni (by omega), J.pa _ hkn]
  by_cases hp : V.pa (q + 1 + k) = some q
  · refine brT ((oI_eq (X.paL hkn) (by omega)).2 hp) ?_
    obtain ⟨c3, c4, _, c5⟩ := P.cu_hit X hq C hkn hp
    by_cases em : m = j
    · subst em
      refine brT (by show I (m - m) = 0; rw [Nat.sub_self]; rfl) ?_
      rw [c4] at h
      exact h
    · refine brF (fun hh => ?_) ?_
      · have hh' : I (j - m) = 0 := hh
        rw [I0 (by omega)] at hh'
        omega
      · rw [add_neg1]
        (try simp (disch := omega) only [L_le, le_L, L_lt, lt_L, eq_L, L_eq, I_le, I_lt, I_eq, I_ni, add_L, L_add, I_add, mul_L, L_mul, I_mul, sub_L, L_sub, I_sub, div_L, rem_L])
        refine hK _ _ (by omega) ⟨rfl, m + 1, ?_, by omega, c5⟩
        rw [show j - m - 1 = j - (m + 1) by omega, show q + 1 + k + 1 = q + 1 + (k + 1) by omega]
  · refine brF (fun hh => hp ((oI_eq (X.paL hkn) (by omega)).1 hh)) ?_
    (try simp (disch := omega) only [L_le, le_L, L_lt, lt_L, eq_L, L_eq, I_le, I_lt, I_eq, I_ni, add_L, L_add, I_add, mul_L, L_mul, I_mul, sub_L, L_sub, I_sub, div_L, rem_L])
    refine hK _ _ (by omega) ⟨rfl, m, ?_, hm, P.cu_miss X hq C hp⟩
    rw [show q + 1 + k + 1 = q + 1 + (k + 1) by omega]

theorem pt_positionOf (W : G.WF) (X : V.WF G) (P : V.PO G) (J : TwI T G V gv) {k q : Nat} (hk : k < V.n) (hp : V.pa k = some q) {Q : Int32 → TS → Prop} (h : Q (I (V.pl k)) T) : wp_X1_positionOf (I k) T Q := by
  have h40 := X.n40
  obtain ⟨hq, p2, p3, p4⟩ := X.par k q hk hp
  have hk3 := W.kn _ (X.pd q hq)
  have hgt := P.gt q _ hq p2 p3
  rw [p4] at hgt
  unfold wp_X1_positionOf
  refine ⟨tix_I rfl (by show _ < 40; omega) (by decide), ?_⟩
  rw [I_ni (by omega), J.pa k hk, hp]
  show tlp _ (1, I q + 1) T
  (try simp (disch := omega) only [L_le, le_L, L_lt, lt_L, eq_L, L_eq, I_le, I_lt, I_eq, I_ni, add_L, L_add, I_add, mul_L, L_mul, I_mul, sub_L, L_sub, I_sub, div_L, rem_L])
  refine tlp_cnt (k - (q + 1)) (fun i s T' => T' = T ∧ ∃ m, s = (I (1 + m), I (q + 1 + i)) ∧ V.Cu G q m (q + 1 + i)) ⟨rfl, 0, rfl, P.cu0 hq⟩ ?_
  rintro i _ _ K hi ⟨rfl, m, rfl, C⟩ hK
  by_cases e : i = k - (q + 1)
  · refine brT (by (first | omega | ((try simp (disch := omega) only [L_le, le_L, L_lt, lt_L, eq_L, L_eq, I_le, I_lt, I_eq, I_ni, add_L, L_add, I_add, mul_L, L_mul, I_mul, sub_L, L_sub, I_sub, div_L, rem_L]); done) | ((try simp (disch := omega) only [L_le, le_L, L_lt, lt_L, eq_L, L_eq, I_le, I_lt, I_eq, I_ni, add_L, L_add, I_add, mul_L, L_mul, I_mul, sub_L, L_sub, I_sub, div_L, rem_L]); omega))) ?_
    have e1 : q + 1 + i = k := by omega
    rw [e1] at C
    obtain ⟨_, _, c3, _⟩ := P.cu_hit X hq C hk hp
    rw [c3, Nat.add_comm] at h
    exact h
  · have hin : q + 1 + i < V.n := by omega
    refine brF (by (first | omega | ((try simp (disch := omega) only [L_le, le_L, L_lt, lt_L, eq_L, L_eq, I_le, I_lt, I_eq, I_ni, add_L, L_add, I_add, mul_L, L_mul, I_mul, sub_L, L_sub, I_sub, div_L, rem_L]); done) | ((try simp (disch := omega) only [L_le, le_L, L_lt, lt_L, eq_L, L_eq, I_le, I_lt, I_eq, I_ni, add_L, L_add, I_add, mul_L, L_mul, I_mul, sub_L, L_sub, I_sub, div_L, rem_L]); omega))) ⟨tix_I rfl (by show _ < 40; omega) (by decide), tix_I rfl (by show _ < 40; omega) (by decide), ?_⟩
    intro m4 hm4
    have hC := C.1
    rw [I_ni (by omega), J.pa k hk, J.pa _ hin, hp] at hm4
    have e2 : (oI (V.pa (q + 1 + i)) = oI (some q)) ↔ V.pa (q + 1 + i) = some q := oI_eq (k := q) (X.paL hin) (by omega)
    by_cases hp' : V.pa (q + 1 + i) = some q
    · rw [if_pos (e2.2 hp')] at hm4
      subst hm4
      obtain ⟨c3, c4, _, c5⟩ := P.cu_hit X hq C hin hp'
      (try simp (disch := omega) only [L_le, le_L, L_lt, lt_L, eq_L, L_eq, I_le, I_lt, I_eq, I_ni, add_L, L_add, I_add, mul_L, L_mul, I_mul, sub_L, L_sub, I_sub, div_L, rem_L])
      refine hK _ _ (by omega) ⟨rfl, m + 1, ?_, c5⟩
      rw [show q + 1 + i + 1 = q + 1 + (i + 1) by omega, Nat.add_assoc 1 m 1]
    · rw [if_neg (fun hh => hp' (e2.1 hh))] at hm4
      subst hm4
      have z : I (1 + m) + 0 = I (1 + m) := Int32.add_zero _
      (try simp (disch := omega) only [L_le, le_L, L_lt, lt_L, eq_L, L_eq, I_le, I_lt, I_eq, I_ni, add_L, L_add, I_add, mul_L, L_mul, I_mul, sub_L, L_sub, I_sub, div_L, rem_L])
      refine hK _ _ (by omega) ⟨rfl, m, ?_, P.cu_miss X hq C hp'⟩
      rw [show q + 1 + i + 1 = q + 1 + (i + 1) by omega]
      try rw [Nat.add_zero]

theorem pt_instanceOf (W : G.WF) (X : V.WF G) (P : V.PO G) (J : TwI T G V gv) {q o : Nat} (hq : q < V.n) (ho : G.oc (V.pd q) o) {Q : Int32 → TS → Prop} (h : Q (I (8 * V.atP q (o / 8) + o % 8)) T) : wp_X1_instanceOf (I q) (I o) T Q := by
  have h40 := X.n40
  have h32 := ho.1
  have hk3 := W.kn _ (X.pd q hq)
  unfold wp_X1_instanceOf
  by_cases e : 8 ≤ o
  · refine brT (by (first | omega | ((try simp (disch := omega) only [L_le, le_L, L_lt, lt_L, eq_L, L_eq, I_le, I_lt, I_eq, I_ni, add_L, L_add, I_add, mul_L, L_mul, I_mul, sub_L, L_sub, I_sub, div_L, rem_L]); done) | ((try simp (disch := omega) only [L_le, le_L, L_lt, lt_L, eq_L, L_eq, I_le, I_lt, I_eq, I_ni, add_L, L_add, I_add, mul_L, L_mul, I_mul, sub_L, L_sub, I_sub, div_L, rem_L]); omega))) ?_
    (try simp (disch := omega) only [L_le, le_L, L_lt, lt_L, eq_L, L_eq, I_le, I_lt, I_eq, I_ni, add_L, L_add, I_add, mul_L, L_mul, I_mul, sub_L, L_sub, I_sub, div_L, rem_L])
    have h2 := ho.2.1
    refine pt_child W X P J hq (show o / 8 - 1 < G.kn (V.pd q) by omega) ?_
    have hkd := (X.kid q (o / 8 - 1 + 1) hq (by omega) (by omega)).1
    (try simp (disch := omega) only [L_le, le_L, L_lt, lt_L, eq_L, L_eq, I_le, I_lt, I_eq, I_ni, add_L, L_add, I_add, mul_L, L_mul, I_mul, sub_L, L_sub, I_sub, div_L, rem_L])
    have e2 : V.atP q (o / 8) = V.kd q (o / 8 - 1 + 1) := by
      unfold Tv.atP
      rw [if_neg (by omega), show o / 8 - 1 + 1 = o / 8 by omega]
    rw [e2] at h
    exact h
  · refine brF (by (first | omega | ((try simp (disch := omega) only [L_le, le_L, L_lt, lt_L, eq_L, L_eq, I_le, I_lt, I_eq, I_ni, add_L, L_add, I_add, mul_L, L_mul, I_mul, sub_L, L_sub, I_sub, div_L, rem_L]); done) | ((try simp (disch := omega) only [L_le, le_L, L_lt, lt_L, eq_L, L_eq, I_le, I_lt, I_eq, I_ni, add_L, L_add, I_add, mul_L, L_mul, I_mul, sub_L, L_sub, I_sub, div_L, rem_L]); omega))) ?_
    (try simp (disch := omega) only [L_le, le_L, L_lt, lt_L, eq_L, L_eq, I_le, I_lt, I_eq, I_ni, add_L, L_add, I_add, mul_L, L_mul, I_mul, sub_L, L_sub, I_sub, div_L, rem_L])
    have e2 : V.atP q (o / 8) = q := by
      unfold Tv.atP
      rw [if_pos (by omega)]
    rw [e2, show o % 8 = o by omega] at h
    exact h

theorem pt_isNode (X : V.WF G) (J : TwI T G V gv) {k : Nat} (hk : k < 2147483648) {Q : Int32 → TS → Prop} (h : Q (iP (k < V.n)) T) : wp_X1_isNode (I k) T Q := by
  have h40 := X.n40
  unfold wp_X1_isNode
  rw [J.n]
  refine pt_isFrom ?_
  by_cases hlt : k < V.n
  · rw [if_pos ((le_sub1 hk (by omega)).2 hlt)]
    rw [iP_pos hlt] at h
    exact ⟨.inr rfl, h⟩
  · rw [if_neg (fun hh => hlt ((le_sub1 hk (by omega)).1 hh))]
    rw [iP_neg hlt] at h
    exact ⟨.inl rfl, h⟩

theorem pt_symbolOf (W : G.WF) (X : V.WF G) (J : TwI T G V gv) {k : Nat} (hk : k < V.n) {Q : Int32 → TS → Prop} (h : Q (I (V.sm G k)) T) : wp_X1_symbolOf (I k) T Q := by
  have h40 := X.n40
  have hP := W.nP
  have hp := X.pd k hk
  unfold wp_X1_symbolOf
  refine ⟨tix_I rfl (by show _ < 40; omega) (by decide), ?_⟩
  rw [I_ni (by omega), J.pd k hk]
  (try simp (disch := omega) only [L_le, le_L, L_lt, lt_L, eq_L, L_eq, I_le, I_lt, I_eq, I_ni, add_L, L_add, I_add, mul_L, L_mul, I_mul, sub_L, L_sub, I_sub, div_L, rem_L])
  refine ⟨tix_I rfl (by show _ < 3816; omega) (by decide), ?_⟩
  rw [J.A.left _ hp]
  exact h

theorem pt_isInstance (W : G.WF) (X : V.WF G) (J : TwI T G V gv) {k a : Nat} (hk : k < 2147483648) (ha : a < 2147483648) {Q : Int32 → TS → Prop} (h : Q (iP (k < V.n ∧ a < G.cnt (V.sm G k))) T) : wp_X1_isInstance (I k) (I a) T Q := by
  unfold wp_X1_isInstance
  refine pt_isNode X J hk ?_
  by_cases hlt : k < V.n
  · rw [iP_pos hlt]
    refine brF (by decide) ?_
    refine pt_symbolOf W X J hlt ?_
    have hs := X.smS W hlt
    have hc := W.cnt8 hs
    refine pt_attributes W J.A rfl hs ?_
    refine pt_isFrom ?_
    rintro m rfl
    by_cases hl2 : a < G.cnt (V.sm G k)
    · rw [if_pos ((le_sub1 ha (by omega)).2 hl2), if_neg (by decide)]
      rw [iP_pos ⟨hlt, hl2⟩] at h
      exact ⟨.inr rfl, h⟩
    · rw [if_neg (fun hh => hl2 ((le_sub1 ha (by omega)).1 hh)), if_pos rfl]
      rw [iP_neg (fun hh => hl2 hh.2)] at h
      exact ⟨.inl rfl, h⟩
  · rw [iP_neg hlt]
    refine brT rfl ?_
    rw [iP_neg (fun hh => hlt hh.1)] at h
    exact h

/-- where rules are, as the twin lays it. -/
def TwB (T : TS) (G : Gv) (V : Tv) : Prop :=
  (∀ i, i < 320 → T.a 36 i = iP (V.is G i)) ∧
  (∀ i, V.is G i → T.a 26 i = oI (V.rA G i)) ∧
  (∀ i q, V.is G i → V.rA G i = some q → T.a 27 i = I (V.oO G i))
theorem TwB.th {T : TS} {G : Gv} {V : Tv} (h9 : TwB T G V) : ∀ i, i < 320 → T.a 36 i = iP (V.is G i) := h9.1
theorem TwB.ba {T : TS} {G : Gv} {V : Tv} (h9 : TwB T G V) : ∀ i, V.is G i → T.a 26 i = oI (V.rA G i) := h9.2.1
theorem TwB.oc {T : TS} {G : Gv} {V : Tv} (h9 : TwB T G V) : ∀ i q, V.is G i → V.rA G i = some q → T.a 27 i = I (V.oO G i) := h9.2.2

theorem TwB.keep {A S : List Nat} {U : TS} (B : TwB T G V) (F : Tch A S T U) (h1 : 36 ∉ A) (h2 : 26 ∉ A) (h3 : 27 ∉ A) : TwB U G V :=
  ⟨by rw [F.a _ h1]; exact B.th, by rw [F.a _ h2]; exact B.ba, by rw [F.a _ h3]; exact B.oc⟩

theorem Tch.sa {A S : List Nat} {T U : TS} (h : Tch A S T U) {j : Nat} (hj : j ∈ A) (i : Nat) (v : Int32) : Tch A S T (U.sa j i v) := by
  rw [sa_wa]; exact h.wa hj _
theorem sa_a (T : TS) (j i : Nat) (v : Int32) (k : Nat) : (T.sa j i v).a k = if k = j then updN (T.a j) i v else T.a k := by rw [sa_wa]; rfl
theorem sa_at (T : TS) (j i : Nat) (v : Int32) : (T.sa j i v).a j = updN (T.a j) i v := by rw [sa_a, if_pos rfl]
theorem sa_off (T : TS) {j k : Nat} (h : k ≠ j) (i : Nat) (v : Int32) : (T.sa j i v).a k = T.a k := by rw [sa_a, if_neg h]
theorem sa_sc (T : TS) (j i : Nat) (v : Int32) : (T.sa j i v).s = T.s := rfl

theorem pt_laysBases (W : G.WF) (X : V.WF G) (P : V.PO G) (J : TwI T G V gv) {Q : TS → Prop} (h : ∀ U, Tch [26, 27, 36] [] T U → TwB U G V → Q U) : wp_X1_laysBases T Q := by
  have h40 := X.n40
  unfold wp_X1_laysBases
  refine tlp_cnt 320 (fun k s U => s = I k ∧ Tch [26, 27, 36] [] T U ∧ (∀ i, i < k → U.a 36 i = iP (V.is G i)) ∧ (∀ i, i < k → V.is G i → U.a 26 i = oI (V.rA G i)) ∧ (∀ i q, i < k → V.is G i → V.rA G i = some q → U.a 27 i = I (V.oO G i))) ⟨rfl, Tch.refl T, fun i hi => by omega, fun i hi => by omega, fun i q hi => by omega⟩ ?_
  rintro k _ U K hk ⟨rfl, F, h1, h2, h3⟩ hK
  by_cases e : k = 320
  · subst e
    exact brT (by (first | omega | ((try simp (disch := omega) only [L_le, le_L, L_lt, lt_L, eq_L, L_eq, I_le, I_lt, I_eq, I_ni, add_L, L_add, I_add, mul_L, L_mul, I_mul, sub_L, L_sub, I_sub, div_L, rem_L]); done) | ((try simp (disch := omega) only [L_le, le_L, L_lt, lt_L, eq_L, L_eq, I_le, I_lt, I_eq, I_ni, add_L, L_add, I_add, mul_L, L_mul, I_mul, sub_L, L_sub, I_sub, div_L, rem_L]); omega))) (h U F ⟨h1, fun i hi => h2 i (by have := X.isLt hi; omega) hi, fun i q hi => h3 i q (by have := X.isLt hi; omega) hi⟩)
  have hk' : k < 320 := by omega
  refine brF (by (first | omega | ((try simp (disch := omega) only [L_le, le_L, L_lt, lt_L, eq_L, L_eq, I_le, I_lt, I_eq, I_ni, add_L, L_add, I_add, mul_L, L_mul, I_mul, sub_L, L_sub, I_sub, div_L, rem_L]); done) | ((try simp (disch := omega) only [L_le, le_L, L_lt, lt_L, eq_L, L_eq, I_le, I_lt, I_eq, I_ni, add_L, L_add, I_add, mul_L, L_mul, I_mul, sub_L, L_sub, I_sub, div_L, rem_L]); omega))) ?_
  (try simp (disch := omega) only [L_le, le_L, L_lt, lt_L, eq_L, L_eq, I_le, I_lt, I_eq, I_ni, add_L, L_add, I_add, mul_L, L_mul, I_mul, sub_L, L_sub, I_sub, div_L, rem_L])
  have JU := J.keep F (by decide) (by decide) (by decide) (by decide) (by decide) (by decide)
  refine pt_isInstance W X JU (by omega) (by omega) ?_
  refine ⟨tix_I rfl (by show _ < 320; omega) (by decide), ?_⟩
  intro U1 hU1
  rw [iP_nar] at hU1
  have F1 : Tch [26, 27, 36] [] T U1 := by rw [hU1]; exact F.sa (by decide) _ _
  have a36 : U1.a 36 = updN (U.a 36) k (iP (V.is G k)) := by rw [hU1, sa_at]
  have a26 : U1.a 26 = U.a 26 := by rw [hU1, sa_off _ (by decide)]
  have a27 : U1.a 27 = U.a 27 := by rw [hU1, sa_off _ (by decide)]
  have J1 := J.keep F1 (by decide) (by decide) (by decide) (by decide) (by decide) (by decide)
  clear hU1
  have h36 : ∀ i, i < k + 1 → U1.a 36 i = iP (V.is G i) := fun i hi => by
    rw [a36]
    by_cases ei : i = k
    · rw [ei, updN_same]
    · rw [updN_ne _ _ ei]; exact h1 i (by omega)
  refine ⟨tix_I rfl (by show _ < 320; omega) (by decide), ?_⟩
  rw [h36 k (by omega)]
  by_cases his : V.is G k
  · rw [iP_pos his]
    refine brF (by decide) ?_
    refine pt_symbolOf W X J1 his.1 ?_
    have hs := X.smS W his.1
    have hS := W.nS
    have hi4 := W.ins _ hs
    (try simp (disch := omega) only [L_le, le_L, L_lt, lt_L, eq_L, L_eq, I_le, I_lt, I_eq, I_ni, add_L, L_add, I_add, mul_L, L_mul, I_mul, sub_L, L_sub, I_sub, div_L, rem_L])
    refine ⟨tix_I rfl (by show _ < 3816; omega) (by decide), ?_⟩
    rw [J1.A.ins _ hs]
    intro m10 hm10
    (try simp (disch := omega) only [L_le, le_L, L_lt, lt_L, eq_L, L_eq, I_le, I_lt, I_eq, I_ni, add_L, L_add, I_add, mul_L, L_mul, I_mul, sub_L, L_sub, I_sub, div_L, rem_L])
    -- what stands at the end
    have fin : ∀ U2, Tch [26, 27, 36] [] T U2 → U2.a 36 = U1.a 36 → U2.a 26 = updN (U1.a 26) k (oI (V.rA G k)) → (∀ q, V.rA G k = some q → U2.a 27 k = I (V.oO G k)) → (∀ i, i ≠ k → U2.a 27 i = U1.a 27 i) → K (I (k + 1)) U2 := by
      intro U2 F2 e36 e26 e27 e27'
      refine hK _ _ hk' ⟨rfl, F2, by rw [e36]; exact h36, fun i hi hh => ?_, fun i q hi hh hr => ?_⟩
      · rw [e26]
        by_cases ei : i = k
        · rw [ei, updN_same]
        · rw [updN_ne _ _ ei, a26]; exact h2 i (by omega) hh
      · by_cases ei : i = k
        · subst ei; exact e27 q hr
        · rw [e27' i ei, a27]; exact h3 i q (by omega) hh hr
    by_cases hin : G.ins (V.sm G (k / 8)) ≤ k % 8
    · rw [if_pos ((I_le (by omega) (by omega)).2 hin)] at hm10
      subst hm10
      have hrA : V.rA G k = some (k / 8) := by unfold Tv.rA; rw [if_pos hin]
      have hoO : V.oO G k = k % 8 := by unfold Tv.oO; rw [if_pos hin]
      refine ⟨fun x U2 => x = I (k / 8) ∧ U2 = U1, brT rfl ⟨rfl, rfl⟩, ?_⟩
      intro x2 U2 hh2
      obtain ⟨hx2, hU2⟩ := hh2
      rw [hx2, hU2]
      clear hx2 hU2 x2 U2
      refine ⟨tix_I rfl (by show _ < 320; omega) (by decide), ?_⟩
      intro U3 hU3
      refine brT rfl ⟨tix_I rfl (by show _ < 320; omega) (by decide), ?_⟩
      intro U4 hU4
      refine fin U4 (by rw [hU4, hU3]; exact (F1.sa (by decide) _ _).sa (by decide) _ _) (by rw [hU4, sa_off _ (by decide), hU3, sa_off _ (by decide)]) (by rw [hU4, sa_off _ (by decide), hU3, sa_at, hrA]; rfl) (fun q _ => by rw [hU4, sa_at, updN_same, hoO]) (fun i hi => by rw [hU4, sa_at, updN_ne _ _ hi, hU3, sa_off _ (by decide)])
    · rw [if_neg (fun hh => hin ((I_le (by omega) (by omega)).1 hh))] at hm10
      subst hm10
      have hrA : V.rA G k = V.pa (k / 8) := by unfold Tv.rA; rw [if_neg hin]
      have hoO : V.oO G k = 8 * V.pl (k / 8) + k % 8 := by unfold Tv.oO; rw [if_neg hin]
      refine ⟨fun x U2 => x = oI (V.pa (k / 8)) ∧ U2 = U1, brF (by decide) ⟨tix_I rfl (by show _ < 40; omega) (by decide), J1.pa _ his.1, rfl⟩, ?_⟩
      intro x2 U2 hh2
      obtain ⟨hx2, hU2⟩ := hh2
      rw [hx2, hU2]
      clear hx2 hU2 x2 U2
      refine ⟨tix_I rfl (by show _ < 320; omega) (by decide), ?_⟩
      intro U3 hU3
      have F3 : Tch [26, 27, 36] [] T U3 := by rw [hU3]; exact F1.sa (by decide) _ _
      have J3 := J.keep F3 (by decide) (by decide) (by decide) (by decide) (by decide) (by decide)
      refine brF (by decide) ⟨tix_I rfl (by show _ < 40; omega) (by decide), ?_⟩
      rw [J3.pa _ his.1]
      cases hpa : V.pa (k / 8) with
      | none =>
        refine brT rfl ⟨tix_I rfl (by show _ < 320; omega) (by decide), ?_⟩
        intro U4 hU4
        refine fin U4 (by rw [hU4]; exact F3.sa (by decide) _ _) (by rw [hU4, sa_off _ (by decide), hU3, sa_off _ (by decide)]) (by rw [hU4, sa_off _ (by decide), hU3, sa_at, hrA]) (fun q hq => by rw [hrA, hpa] at hq; exact absurd hq (by simp)) (fun i hi => by rw [hU4, sa_at, updN_ne _ _ hi, hU3, sa_off _ (by decide)])
      | some q =>
        obtain ⟨hq, p2, p3, p4⟩ := X.par _ q his.1 hpa
        have hk3 := W.kn _ (X.pd q hq)
        refine brF (I_neg1_ne (by omega)) ?_
        refine pt_positionOf W X P J3 his.1 hpa ?_
        (try simp (disch := omega) only [L_le, le_L, L_lt, lt_L, eq_L, L_eq, I_le, I_lt, I_eq, I_ni, add_L, L_add, I_add, mul_L, L_mul, I_mul, sub_L, L_sub, I_sub, div_L, rem_L])
        refine ⟨tix_I rfl (by show _ < 320; omega) (by decide), ?_⟩
        intro U4 hU4
        refine fin U4 (by rw [hU4]; exact F3.sa (by decide) _ _) (by rw [hU4, sa_off _ (by decide), hU3, sa_off _ (by decide)]) (by rw [hU4, sa_off _ (by decide), hU3, sa_at, hrA]) (fun q _ => by rw [hU4, sa_at, updN_same, hoO]) (fun i hi => by rw [hU4, sa_at, updN_ne _ _ hi, hU3, sa_off _ (by decide)])
  · rw [iP_neg his]
    refine brT rfl ?_
    (try simp (disch := omega) only [L_le, le_L, L_lt, lt_L, eq_L, L_eq, I_le, I_lt, I_eq, I_ni, add_L, L_add, I_add, mul_L, L_mul, I_mul, sub_L, L_sub, I_sub, div_L, rem_L])
    refine hK _ _ hk' ⟨rfl, F1, h36, fun i hi hh => ?_, fun i q hi hh hr => ?_⟩
    · rw [a26]
      exact h2 i (by have : i ≠ k := fun ei => his (ei ▸ hh); omega) hh
    · rw [a27]
      exact h3 i q (by have : i ≠ k := fun ei => his (ei ▸ hh); omega) hh hr

theorem pt_asksOf (W : G.WF) (X : V.WF G) (J : TwI T G V gv) (B : TwB T G V) {i : Nat} (hi : V.is G i) {Q : Int32 → TS → Prop} (h : Q (V.ask G i) T) : wp_X1_asksOf (I i) T Q := by
  have h40 := X.n40
  have hlt := X.isLt hi
  unfold wp_X1_asksOf
  refine ⟨tix_I rfl (by show _ < 320; omega) (by decide), ?_⟩
  rw [I_ni (by omega), B.ba i hi]
  unfold Tv.ask at h
  cases hr : V.rA G i with
  | none =>
    rw [hr] at h
    exact brT rfl h
  | some q =>
    rw [hr] at h
    have hq := X.rAlt hi.1 hr
    have hP := W.nP
    have hp := X.pd q hq
    have ho := (X.oOlt W hi hr).1.1
    refine brF (I_neg1_ne (by omega)) ⟨tix_I rfl (by show _ < 320; omega) (by decide), tix_I rfl (by show _ < 40; omega) (by decide), tix_I rfl (by show _ < 320; omega) (by decide), ?_⟩
    show wp_X1_asks (T.a 19 (ni (I q))) _ _ _
    rw [I_ni (by omega), J.pd q hq, B.oc i q hi hr]
    exact pt_asks W J.A rfl hp ho h
end
