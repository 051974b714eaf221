/-! plain: cnd -/
set_option maxRecDepth 100000
section
variable {G : Gv} {T : Tv} {L : GA} {A : TA} {x o : Nat} {B : IA} {tu un ga : Nat} {s : TjS} {gv : Nat → Int32}

noncomputable def iP (P : Prop) : Int32 := @ite _ P (Classical.propDecidable _) 1 0
theorem iP_pos {P : Prop} (h : P) : iP P = 1 := if_pos h
theorem iP_neg {P : Prop} (h : ¬ P) : iP P = 0 := if_neg h
theorem iP_zero {P : Prop} : iP P = 0 ↔ ¬ P := by
  constructor
  · intro h hp; rw [iP_pos hp] at h; exact absurd h (by decide)
  · exact iP_neg
theorem iP_congr {P Q : Prop} (h : P ↔ Q) : iP P = iP Q := by rw [propext h]
theorem iP_nar (P : Prop) : vp_nar .boolean (iP P) = iP P := by
  by_cases h : P
  · rw [iP_pos h]; rfl
  · rw [iP_neg h]; rfl

theorem px_hangs {h : AH} (W : G.WF) (X : T.WF G) (S : GS h.c L G) (R : TrR h.c L A G T x) (J : InO h.c o x) {ch : Nat} (hk : h.kd ch = (42, 320)) {C : Nat → Prop} (hC : ∀ i, i < 320 → h.ai ch i = iP (C i)) {i : Nat} (hi : T.is G i) {Q : Int32 → AH → Prop}
    (hQ : Q (iP (∃ y, T.ed G i y ∧ C y)) h) : wp_X17_hangsOnChanged o (I i) (some ch) h Q := by
  have h40 := X.n40
  refine ⟨nn_of rfl J.k, ?_⟩
  refine px_askedI (h := h.srm 0 0) W X S R J hi (pu ?_)
  refine xlp_cnt 32 (fun k q T' => q = I k ∧ T' = h ∧ ∀ u, u < k → bt (T.ask G i) u = true → ¬ C (T.oth G i u)) ⟨rfl, rfl, fun u hu => by omega⟩ ?_
  rintro k _ T' K hk' ⟨rfl, rfl, hf⟩ hK
  by_cases e : k = 32
  · subst e
    refine brT (by (first | omega | ((try simp (disch := omega) only [L_le, le_L, L_lt, lt_L, eq_L, L_eq, I_le, I_lt, I_eq, I_ni, add_L, L_add, I_add, mul_L, L_mul, I_mul, sub_L, L_sub, I_sub, div_L, rem_L]); done) | ((try simp (disch := omega) only [L_le, le_L, L_lt, lt_L, eq_L, L_eq, I_le, I_lt, I_eq, I_ni, add_L, L_add, I_add, mul_L, L_mul, I_mul, sub_L, L_sub, I_sub, div_L, rem_L]); omega))) ?_
    rw [iP_neg] at hQ
    · exact hQ
    · rintro ⟨y, ⟨_, u, hu, h1, rfl⟩, hc⟩
      exact hf u hu h1 hc
  refine brF (by (first | omega | ((try simp (disch := omega) only [L_le, le_L, L_lt, lt_L, eq_L, L_eq, I_le, I_lt, I_eq, I_ni, add_L, L_add, I_add, mul_L, L_mul, I_mul, sub_L, L_sub, I_sub, div_L, rem_L]); done) | ((try simp (disch := omega) only [L_le, le_L, L_lt, lt_L, eq_L, L_eq, I_le, I_lt, I_eq, I_ni, add_L, L_add, I_add, mul_L, L_mul, I_mul, sub_L, L_sub, I_sub, div_L, rem_L]); omega))) ?_
  refine px_has (h := T'.srm 0 0) (by omega) (pu ?_)
  have hnext : ¬ (bt (T.ask G i) k = true ∧ C (T.oth G i k)) → K (I (k + 1)) T' := by
    intro hn
    refine hK _ _ (by omega) ⟨rfl, rfl, fun u hu h1 h2 => ?_⟩
    by_cases e : u = k
    · exact hn ⟨e ▸ h1, e ▸ h2⟩
    · exact hf u (by omega) h1 h2
  (try simp (disch := omega) only [L_le, le_L, L_lt, lt_L, eq_L, L_eq, I_le, I_lt, I_eq, I_ni, add_L, L_add, I_add, mul_L, L_mul, I_mul, sub_L, L_sub, I_sub, div_L, rem_L])
  by_cases hbk : bt (T.ask G i) k = true
  · rw [if_pos hbk]
    refine brF (by decide) ⟨nn_of rfl J.k, ?_⟩
    have hlt := X.isLt (X.oth_is W hi hbk).choose_spec.2.2.2.2.2
    refine px_other (h := T'.srm 0 0) W X S R J hi hbk (pu ?_)
    refine ⟨ix_of rfl hk (by omega) (by decide), ?_⟩
    rw [adr_some, I_ni (by omega), hC _ (by omega)]
    by_cases ej : C (T.oth G i k)
    · refine brF (fun hh => iP_zero.1 hh ej) ?_
      rw [iP_pos ⟨_, ⟨hi, k, by omega, hbk, rfl⟩, ej⟩] at hQ
      exact hQ
    · exact brT (iP_neg ej) (hnext (fun hh => ej hh.2))
  · rw [if_neg hbk]
    exact brT rfl (hnext (fun hh => hbk hh.1))

/-- what a reckoning of what is due writes. -/
def WD (A : TA) (T : Tv) (tu un x : Nat) : Nat → Nat → Prop := fun f b => WK A T tu un f b ∨ ((f = 110 ∨ f = 111) ∧ b = x)
theorem WD.w {f a : Nat} (h : WD A T tu un x f a) : WK A T tu un f a ∨ f = 110 ∨ f = 111 := by
  rcases h with h | h
  · exact .inl h
  · exact .inr h.1

def DuS (c0 : HC) (A : TA) (T : Tv) (tu un x ch bf : Nat) (U : AH) (w : Vl) (C : Nat → Prop) (t u : Nat → Int32) (a b r1 r2 : Nat) : Prop :=
  (Fr (WD A T tu un x) c0 U.c) ∧
  (VaR U.c A T w) ∧
  (U.kd ch = (42, 320)) ∧
  (ch < U.sz) ∧
  (∀ i, i < 320 → U.ai ch i = iP (C i)) ∧
  (U.kd bf = (40, 320)) ∧
  (bf < U.sz) ∧
  (U.ai tu = t) ∧
  (U.ai un = u) ∧
  (U.fi 110 x = I a) ∧
  (U.fi 111 x = I b) ∧
  (U.rc = r1) ∧
  (U.rs = r2)
theorem DuS.F {c0 : HC} {A : TA} {T : Tv} {tu un x ch bf : Nat} {U : AH} {w : Vl} {C : Nat → Prop} {t u : Nat → Int32} {a b r1 r2 : Nat} (h9 : DuS c0 A T tu un x ch bf U w C t u a b r1 r2) : Fr (WD A T tu un x) c0 U.c := h9.1
theorem DuS.V {c0 : HC} {A : TA} {T : Tv} {tu un x ch bf : Nat} {U : AH} {w : Vl} {C : Nat → Prop} {t u : Nat → Int32} {a b r1 r2 : Nat} (h9 : DuS c0 A T tu un x ch bf U w C t u a b r1 r2) : VaR U.c A T w := h9.2.1
theorem DuS.ck {c0 : HC} {A : TA} {T : Tv} {tu un x ch bf : Nat} {U : AH} {w : Vl} {C : Nat → Prop} {t u : Nat → Int32} {a b r1 r2 : Nat} (h9 : DuS c0 A T tu un x ch bf U w C t u a b r1 r2) : U.kd ch = (42, 320) := h9.2.2.1
theorem DuS.cl {c0 : HC} {A : TA} {T : Tv} {tu un x ch bf : Nat} {U : AH} {w : Vl} {C : Nat → Prop} {t u : Nat → Int32} {a b r1 r2 : Nat} (h9 : DuS c0 A T tu un x ch bf U w C t u a b r1 r2) : ch < U.sz := h9.2.2.2.1
theorem DuS.cv {c0 : HC} {A : TA} {T : Tv} {tu un x ch bf : Nat} {U : AH} {w : Vl} {C : Nat → Prop} {t u : Nat → Int32} {a b r1 r2 : Nat} (h9 : DuS c0 A T tu un x ch bf U w C t u a b r1 r2) : ∀ i, i < 320 → U.ai ch i = iP (C i) := h9.2.2.2.2.1
theorem DuS.bk {c0 : HC} {A : TA} {T : Tv} {tu un x ch bf : Nat} {U : AH} {w : Vl} {C : Nat → Prop} {t u : Nat → Int32} {a b r1 r2 : Nat} (h9 : DuS c0 A T tu un x ch bf U w C t u a b r1 r2) : U.kd bf = (40, 320) := h9.2.2.2.2.2.1
theorem DuS.bl {c0 : HC} {A : TA} {T : Tv} {tu un x ch bf : Nat} {U : AH} {w : Vl} {C : Nat → Prop} {t u : Nat → Int32} {a b r1 r2 : Nat} (h9 : DuS c0 A T tu un x ch bf U w C t u a b r1 r2) : bf < U.sz := h9.2.2.2.2.2.2.1
theorem DuS.tt {c0 : HC} {A : TA} {T : Tv} {tu un x ch bf : Nat} {U : AH} {w : Vl} {C : Nat → Prop} {t u : Nat → Int32} {a b r1 r2 : Nat} (h9 : DuS c0 A T tu un x ch bf U w C t u a b r1 r2) : U.ai tu = t := h9.2.2.2.2.2.2.2.1
theorem DuS.uu {c0 : HC} {A : TA} {T : Tv} {tu un x ch bf : Nat} {U : AH} {w : Vl} {C : Nat → Prop} {t u : Nat → Int32} {a b r1 r2 : Nat} (h9 : DuS c0 A T tu un x ch bf U w C t u a b r1 r2) : U.ai un = u := h9.2.2.2.2.2.2.2.2.1
theorem DuS.n1 {c0 : HC} {A : TA} {T : Tv} {tu un x ch bf : Nat} {U : AH} {w : Vl} {C : Nat → Prop} {t u : Nat → Int32} {a b r1 r2 : Nat} (h9 : DuS c0 A T tu un x ch bf U w C t u a b r1 r2) : U.fi 110 x = I a := h9.2.2.2.2.2.2.2.2.2.1
theorem DuS.n2 {c0 : HC} {A : TA} {T : Tv} {tu un x ch bf : Nat} {U : AH} {w : Vl} {C : Nat → Prop} {t u : Nat → Int32} {a b r1 r2 : Nat} (h9 : DuS c0 A T tu un x ch bf U w C t u a b r1 r2) : U.fi 111 x = I b := h9.2.2.2.2.2.2.2.2.2.2.1
theorem DuS.rc {c0 : HC} {A : TA} {T : Tv} {tu un x ch bf : Nat} {U : AH} {w : Vl} {C : Nat → Prop} {t u : Nat → Int32} {a b r1 r2 : Nat} (h9 : DuS c0 A T tu un x ch bf U w C t u a b r1 r2) : U.rc = r1 := h9.2.2.2.2.2.2.2.2.2.2.2.1
theorem DuS.rs {c0 : HC} {A : TA} {T : Tv} {tu un x ch bf : Nat} {U : AH} {w : Vl} {C : Nat → Prop} {t u : Nat → Int32} {a b r1 r2 : Nat} (h9 : DuS c0 A T tu un x ch bf U w C t u a b r1 r2) : U.rs = r2 := h9.2.2.2.2.2.2.2.2.2.2.2.2

/-- what lies apart. -/
def DuD (c0 : HC) (A : TA) (T : Tv) (tu un x ch bf : Nat) : Prop :=
  (c0.sz ≤ ch) ∧
  (c0.sz ≤ bf) ∧
  (ch ≠ bf) ∧
  (tu < c0.sz) ∧
  (un < c0.sz) ∧
  (tu ≠ un) ∧
  (∀ k, k < T.n → A.va k < c0.sz) ∧
  (∀ k, k < T.n → A.va k ≠ tu ∧ A.va k ≠ un)
theorem DuD.c {c0 : HC} {A : TA} {T : Tv} {tu un x ch bf : Nat} (h9 : DuD c0 A T tu un x ch bf) : c0.sz ≤ ch := h9.1
theorem DuD.b {c0 : HC} {A : TA} {T : Tv} {tu un x ch bf : Nat} (h9 : DuD c0 A T tu un x ch bf) : c0.sz ≤ bf := h9.2.1
theorem DuD.n {c0 : HC} {A : TA} {T : Tv} {tu un x ch bf : Nat} (h9 : DuD c0 A T tu un x ch bf) : ch ≠ bf := h9.2.2.1
theorem DuD.t {c0 : HC} {A : TA} {T : Tv} {tu un x ch bf : Nat} (h9 : DuD c0 A T tu un x ch bf) : tu < c0.sz := h9.2.2.2.1
theorem DuD.u {c0 : HC} {A : TA} {T : Tv} {tu un x ch bf : Nat} (h9 : DuD c0 A T tu un x ch bf) : un < c0.sz := h9.2.2.2.2.1
theorem DuD.tun {c0 : HC} {A : TA} {T : Tv} {tu un x ch bf : Nat} (h9 : DuD c0 A T tu un x ch bf) : tu ≠ un := h9.2.2.2.2.2.1
theorem DuD.v {c0 : HC} {A : TA} {T : Tv} {tu un x ch bf : Nat} (h9 : DuD c0 A T tu un x ch bf) : ∀ k, k < T.n → A.va k < c0.sz := h9.2.2.2.2.2.2.1
theorem DuD.v2 {c0 : HC} {A : TA} {T : Tv} {tu un x ch bf : Nat} (h9 : DuD c0 A T tu un x ch bf) : ∀ k, k < T.n → A.va k ≠ tu ∧ A.va k ≠ un := h9.2.2.2.2.2.2.2

variable {c0 : HC} {ch bf : Nat} {w : Vl} {C : Nat → Prop} {t u : Nat → Int32} {a b r1 r2 : Nat}

theorem DuS.sbf {U : AH} (Z : DuS c0 A T tu un x ch bf U w C t u a b r1 r2) (D : DuD c0 A T tu un x ch bf) (i : Nat) (y : Int32) : DuS c0 A T tu un x ch bf (U.sai bf i y) w C t u a b r1 r2 := by
  have hb := D.b
  refine ⟨Z.F.sai _ _ (fun hh => absurd hh (by omega)), fun k j hk hj => ?_, Z.ck, Z.cl, fun i hi => ?_, Z.bk, Z.bl, ?_, ?_, Z.n1, Z.n2, Z.rc, Z.rs⟩
  · show (U.sai bf i y).ai (A.va k) j = _
    rw [sai_ai, if_neg (by have := D.v k hk; omega)]; exact Z.V k j hk hj
  · rw [sai_ai, if_neg D.n]; exact Z.cv i hi
  · rw [sai_ai, if_neg (by have := D.t; omega)]; exact Z.tt
  · rw [sai_ai, if_neg (by have := D.u; omega)]; exact Z.uu
theorem DuS.sch {U : AH} (Z : DuS c0 A T tu un x ch bf U w C t u a b r1 r2) (D : DuD c0 A T tu un x ch bf) (i : Nat) (P : Prop) : DuS c0 A T tu un x ch bf (U.sai ch i (iP P)) w (fun j => if j = i then P else C j) t u a b r1 r2 := by
  have hb := D.c
  refine ⟨Z.F.sai _ _ (fun hh => absurd hh (by omega)), fun k j hk hj => ?_, Z.ck, Z.cl, fun j hj => ?_, Z.bk, Z.bl, ?_, ?_, Z.n1, Z.n2, Z.rc, Z.rs⟩
  · show (U.sai ch i (iP P)).ai (A.va k) j = _
    rw [sai_ai, if_neg (by have := D.v k hk; omega)]; exact Z.V k j hk hj
  · rw [sai_ai, if_pos rfl]
    by_cases e : j = i
    · subst e
      show _ = iP (if j = j then P else C j)
      rw [updN_same, if_pos rfl]
    · show _ = iP (if j = i then P else C j)
      rw [updN_ne _ _ e, if_neg e]; exact Z.cv j hj
  · rw [sai_ai, if_neg (by have := D.t; omega)]; exact Z.tt
  · rw [sai_ai, if_neg (by have := D.u; omega)]; exact Z.uu
theorem DuS.s1 {U : AH} (Z : DuS c0 A T tu un x ch bf U w C t u a b r1 r2) (y : Nat) : DuS c0 A T tu un x ch bf (U.sfi 110 x (I y)) w C t u y b r1 r2 :=
  ⟨Z.F.sfi _ (fun _ => .inr ⟨.inl rfl, rfl⟩), Z.V, Z.ck, Z.cl, Z.cv, Z.bk, Z.bl, Z.tt, Z.uu, sfi_same _ _ _ _, (sfi_ne (G := 111) _ _ _ _ (by decide)).trans Z.n2, Z.rc, Z.rs⟩
theorem DuS.s2 {U : AH} (Z : DuS c0 A T tu un x ch bf U w C t u a b r1 r2) (y : Nat) : DuS c0 A T tu un x ch bf (U.sfi 111 x (I y)) w C t u a y r1 r2 :=
  ⟨Z.F.sfi _ (fun _ => .inr ⟨.inr rfl, rfl⟩), Z.V, Z.ck, Z.cl, Z.cv, Z.bk, Z.bl, Z.tt, Z.uu, (sfi_ne (G := 110) _ _ _ _ (by decide)).trans Z.n1, sfi_same _ _ _ _, Z.rc, Z.rs⟩
theorem DuS.congr {U : AH} {C' : Nat → Prop} (Z : DuS c0 A T tu un x ch bf U w C t u a b r1 r2) (h : ∀ i, i < 320 → (C i ↔ C' i)) : DuS c0 A T tu un x ch bf U w C' t u a b r1 r2 :=
  ⟨Z.F, Z.V, Z.ck, Z.cl, fun i hi => by rw [Z.cv i hi, iP_congr (h i hi)], Z.bk, Z.bl, Z.tt, Z.uu, Z.n1, Z.n2, Z.rc, Z.rs⟩
/-- over a step that writes values and turns alone. -/
theorem DuS.wk {U U' : AH} {w' : Vl} {t' u' : Nat → Int32} (Z : DuS c0 A T tu un x ch bf U w C t u a b r1 r2) (D : DuD c0 A T tu un x ch bf) (xl : x < U.sz) (F : Fr (WK A T tu un) U.c U'.c) (V : VaR U'.c A T w') (ht : U'.ai tu = t') (hu : U'.ai un = u') (hc : U'.rc = U.rc) (hs : U'.rs = U.rs) :
    DuS c0 A T tu un x ch bf U' w' C t' u' a b r1 r2 := by
  have nc : ¬ WK A T tu un 0 ch := by
    have hb := D.c
    rintro ⟨_, ⟨k, hk, e⟩ | e | e⟩
    · have := D.v k hk; omega
    · have := D.t; omega
    · have := D.u; omega
  refine ⟨Z.F.trans' F (fun f a _ hh => .inl hh), V, ?_, Nat.lt_of_lt_of_le Z.cl F.sz, fun i hi => ?_, ?_, Nat.lt_of_lt_of_le Z.bl F.sz, ht, hu, ?_, ?_, hc.trans Z.rc, hs.trans Z.rs⟩
  · rw [show U'.kd ch = U.kd ch from F.kd ch Z.cl]; exact Z.ck
  · rw [show U'.ai ch = U.ai ch from F.ai ch Z.cl nc]; exact Z.cv i hi
  · rw [show U'.kd bf = U.kd bf from F.kd bf Z.bl]; exact Z.bk
  · rw [show U'.fi 110 x = U.fi 110 x from F.fi _ _ xl (fun hh => absurd hh.1 (by decide))]; exact Z.n1
  · rw [show U'.fi 111 x = U.fi 111 x from F.fi _ _ xl (fun hh => absurd hh.1 (by decide))]; exact Z.n2
end
