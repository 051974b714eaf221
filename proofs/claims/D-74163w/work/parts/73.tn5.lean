/-! plain: tn5 -/
set_option maxRecDepth 100000
section
variable {G : Gv} {V : Tv} {T : TS} {gv : Nat → Int32} {S : Ist}

/-- in one of the knots that are listed. -/
def dO (S : Ist) (O : List Nat) (y : Nat) : Prop := ∃ g, g ∈ O ∧ y ∈ cls S.E S.M g
/-- an order in which none is ahead of what it hangs on. -/
def ordOK (S : Ist) (O : List Nat) : Prop := ∀ n, n < O.length → S.V (O.getD n 0) ∧ S.hd (O.getD n 0) = O.getD n 0 ∧ ¬ dO S (O.take n) (O.getD n 0) ∧ ∀ j y, j ∈ cls S.E S.M (O.getD n 0) → S.E j y → dO S (O.take n) y ∨ y ∈ cls S.E S.M (O.getD n 0)

theorem dO_nil (y : Nat) : ¬ dO S [] y := fun ⟨_, hg, _⟩ => absurd hg (by simp)
theorem dO_snoc {O : List Nat} {i y : Nat} : dO S (O ++ [i]) y ↔ dO S O y ∨ y ∈ cls S.E S.M i := by
  constructor
  · rintro ⟨g, hg, hy⟩
    rcases List.mem_append.1 hg with h | h
    · exact .inl ⟨g, h, hy⟩
    · have : g = i := List.mem_singleton.1 h
      rw [this] at hy
      exact .inr hy
  · rintro (⟨g, hg, hy⟩ | hy)
    · exact ⟨g, List.mem_append.2 (.inl hg), hy⟩
    · exact ⟨i, List.mem_append.2 (.inr (List.mem_singleton.2 rfl)), hy⟩
theorem dO_cls {O : List Nat} {i j : Nat} (h : dO S O i) (hj : j ∈ cls S.E S.M i) : dO S O j := by
  obtain ⟨g, hg, hi⟩ := h
  have a := mem_cls.1 hi
  have b := mem_cls.1 hj
  exact ⟨g, hg, mem_cls.2 ⟨b.1, a.2.1.trans b.2.1, b.2.2.trans a.2.2⟩⟩

theorem getD_app_lt {α : Type} (d : α) {l m : List α} {n : Nat} (h : n < l.length) : (l ++ m).getD n d = l.getD n d := by
  simp only [List.getD_eq_getElem?_getD]
  rw [List.getElem?_append_left h]
theorem getD_app_eq {α : Type} (d x : α) (l : List α) : (l ++ [x]).getD l.length d = x := by
  simp [List.getD_eq_getElem?_getD]

theorem ordOK.snoc {O : List Nat} {i : Nat} (h : ordOK S O) (hV : S.V i) (hh : S.hd i = i) (hn : ¬ dO S O i) (hr : ∀ j y, j ∈ cls S.E S.M i → S.E j y → dO S O y ∨ y ∈ cls S.E S.M i) : ordOK S (O ++ [i]) := by
  intro n hl
  rw [List.length_append] at hl
  have hl' : n < O.length + 1 := hl
  by_cases e : n = O.length
  · subst e
    rw [getD_app_eq, List.take_append_of_le_length (Nat.le_refl _), List.take_length]
    exact ⟨hV, hh, hn, hr⟩
  · have hn' : n < O.length := by omega
    rw [getD_app_lt _ hn', List.take_append_of_le_length (Nat.le_of_lt hn')]
    exact h n hn'

theorem cnP_lt {P Q : Nat → Prop} {m i : Nat} (h : ∀ j, P j → Q j) (hi : i < m) (hp : ¬ P i) (hq : Q i) : cnP P m < cnP Q m := by
  unfold cnP
  refine filt_lt _ _ _ (fun x _ hx => ?_) ⟨i, by simpa using hi, ?_, ?_⟩
  · exact @decide_eq_true _ (_) (h x (@of_decide_eq_true _ (_) hx))
  · exact @decide_eq_true _ (_) hq
  · exact fun hh => hp (@of_decide_eq_true _ (_) hh)

theorem Ist.hd_one (S : Ist) {i : Nat} (hi : S.V i) (hn : ¬ Trc S.E i i) : S.hd i = i := S.alone hn (S.hd_mem hi)

/-- how far the twin is. -/
def TwO (T0 U : TS) (S : Ist) (O : List Nat) : Prop :=
  (Tch [28, 30, 31, 37, 38, 42] [272] T0 U) ∧
  (∀ j, j < 320 → U.a 38 j = iP (dO S O j)) ∧
  (∀ j, dO S O j → U.a 28 j = S.val j) ∧
  (∀ j, dO S O j → Trc S.E j j → U.a 30 j = I (S.tn j) ∧ U.a 37 j = (if S.us j then 1 else 0)) ∧
  (U.s 272 = I O.length) ∧
  (∀ n, n < O.length → U.a 31 n = I (O.getD n 0)) ∧
  (ordOK S O) ∧
  (O.length ≤ cnP (dO S O) S.M)
theorem TwO.F {T0 U : TS} {S : Ist} {O : List Nat} (h9 : TwO T0 U S O) : Tch [28, 30, 31, 37, 38, 42] [272] T0 U := h9.1
theorem TwO.d {T0 U : TS} {S : Ist} {O : List Nat} (h9 : TwO T0 U S O) : ∀ j, j < 320 → U.a 38 j = iP (dO S O j) := h9.2.1
theorem TwO.v {T0 U : TS} {S : Ist} {O : List Nat} (h9 : TwO T0 U S O) : ∀ j, dO S O j → U.a 28 j = S.val j := h9.2.2.1
theorem TwO.t {T0 U : TS} {S : Ist} {O : List Nat} (h9 : TwO T0 U S O) : ∀ j, dO S O j → Trc S.E j j → U.a 30 j = I (S.tn j) ∧ U.a 37 j = (if S.us j then 1 else 0) := h9.2.2.2.1
theorem TwO.n {T0 U : TS} {S : Ist} {O : List Nat} (h9 : TwO T0 U S O) : U.s 272 = I O.length := h9.2.2.2.2.1
theorem TwO.o {T0 U : TS} {S : Ist} {O : List Nat} (h9 : TwO T0 U S O) : ∀ n, n < O.length → U.a 31 n = I (O.getD n 0) := h9.2.2.2.2.2.1
theorem TwO.k {T0 U : TS} {S : Ist} {O : List Nat} (h9 : TwO T0 U S O) : ordOK S O := h9.2.2.2.2.2.2.1
theorem TwO.c {T0 U : TS} {S : Ist} {O : List Nat} (h9 : TwO T0 U S O) : O.length ≤ cnP (dO S O) S.M := h9.2.2.2.2.2.2.2

/-- what it leaves. -/
def TwE (U : TS) (S : Ist) (O : List Nat) : Prop :=
  (∀ j, S.V j → U.a 28 j = S.val j) ∧
  (∀ j, S.V j → Trc S.E j j → U.a 30 j = I (S.tn j) ∧ U.a 37 j = (if S.us j then 1 else 0)) ∧
  (U.s 272 = I O.length) ∧
  (∀ n, n < O.length → U.a 31 n = I (O.getD n 0)) ∧
  (ordOK S O) ∧
  (O.length ≤ S.M) ∧
  (∀ j, S.V j → dO S O j)
theorem TwE.v {U : TS} {S : Ist} {O : List Nat} (h9 : TwE U S O) : ∀ j, S.V j → U.a 28 j = S.val j := h9.1
theorem TwE.t {U : TS} {S : Ist} {O : List Nat} (h9 : TwE U S O) : ∀ j, S.V j → Trc S.E j j → U.a 30 j = I (S.tn j) ∧ U.a 37 j = (if S.us j then 1 else 0) := h9.2.1
theorem TwE.n {U : TS} {S : Ist} {O : List Nat} (h9 : TwE U S O) : U.s 272 = I O.length := h9.2.2.1
theorem TwE.o {U : TS} {S : Ist} {O : List Nat} (h9 : TwE U S O) : ∀ n, n < O.length → U.a 31 n = I (O.getD n 0) := h9.2.2.2.1
theorem TwE.k {U : TS} {S : Ist} {O : List Nat} (h9 : TwE U S O) : ordOK S O := h9.2.2.2.2.1
theorem TwE.c {U : TS} {S : Ist} {O : List Nat} (h9 : TwE U S O) : O.length ≤ S.M := h9.2.2.2.2.2.1
theorem TwE.all {U : TS} {S : Ist} {O : List Nat} (h9 : TwE U S O) : ∀ j, S.V j → dO S O j := h9.2.2.2.2.2.2

def prc (S : Ist) (O : List Nat) (i : Nat) : Prop := S.V i ∧ ¬ dO S O i ∧ S.hd i = i ∧ ∀ j y, j ∈ cls S.E S.M i → S.E j y → dO S O y ∨ y ∈ cls S.E S.M i

theorem prc_all {O : List Nat} (h : ∀ i, S.V i → ¬ prc S O i) : ∀ (n i : Nat), S.rk i < n → S.V i → dO S O i
  | 0, _, hl, _ => absurd hl (Nat.not_lt_zero _)
  | n + 1, i, hl, hi => by
    refine Classical.byContradiction fun hnd => ?_
    have hm := S.hd_mem hi
    have hg := S.cls_V hi hm
    have hm' := mem_cls.1 hm
    have ec := cls_eq (M := S.M) hm'.2.1 hm'.2.2
    refine h (S.hd i) hg ⟨hg, fun hh => hnd (dO_cls hh (mem_cls.2 ⟨S.hV i hi, hm'.2.2, hm'.2.1⟩)), S.hd_cls hi hm, fun j y hj he => ?_⟩
    rw [← ec] at hj ⊢
    by_cases hy : y ∈ cls S.E S.M i
    · exact .inr hy
    · have := S.out_rk hi hj he hy
      exact .inl (prc_all h n y (by omega) (S.hE _ _ he).2)

theorem pt_blk (W : G.WF) (P : V.PO G) (R : G.RL) (IS : IsI S G V gv) (X : V.WF G) {T0 U : TS} (x : TwX U G V gv S) {O : List Nat} (Z : TwO T0 U S O) {i : Nat} (hp : prc S O i) {K : Int32 × Int32 → TS → Prop} (hK : ∀ U', TwO T0 U' S (O ++ [i]) → K (1, I (i + 1)) U') :
    tix 29 40 (I i) ∧ tjn (α := Unit) (fun J => ((U.a 29 i = -1 → wp_X1_worked (I i) U fun r T60 => tix 28 40 (I i) ∧ ∀ T62, T62 = T60.sa 28 i r → tix 38 42 (I i) ∧ ∀ T63, T63 = T62.sa 38 i (vp_nar .boolean 1) → J () T63) ∧ (¬ U.a 29 i = -1 → wp_X1_turnsKnot (I i) U fun T58 => J () T58))) (fun _ T65 => tix 31 40 (T65.s 272) ∧ ∀ T66, T66 = T65.sa 31 (ni (T65.s 272)) (I i) → ∀ T67, T67 = T66.ss 272 (T66.s 272 + 1) → K (1, I (i + 1)) T67) := by
  have h40 := X.n40
  have hMM := IS.mm
  obtain ⟨hi, hnd, hh0, hr⟩ := hp
  have hlt := S.hV i hi
  have hself := S.cls_self hi
  have hcn : cnP (dO S O) S.M < cnP (dO S (O ++ [i])) S.M := cnP_lt (fun j hj => dO_snoc.2 (.inl hj)) hlt hnd (dO_snoc.2 (.inr hself))
  have hle := cnP_le (dO S (O ++ [i])) S.M
  have hc := Z.c
  have hout : ∀ j y, j ∈ cls S.E S.M i → S.E j y → y ∉ cls S.E S.M i → U.a 28 y = S.val y := fun j y hj he hy => Z.v y ((hr j y hj he).resolve_right hy)
  have hre := S.sol.re hi hout
  have hdis : ∀ j, dO S O j → j ∉ cls S.E S.M i := fun j hd hj => hnd (dO_cls hd (mem_cls.2 ⟨hlt, (mem_cls.1 hj).2.2, (mem_cls.1 hj).2.1⟩))
  refine ⟨tix_I rfl (by show _ < 320; omega) (by decide), ?_⟩
  refine ⟨fun _ U' => Tch [28, 30, 31, 37, 38, 42] [272] T0 U' ∧ U'.s 272 = I O.length ∧ U'.a 31 = U.a 31 ∧ (∀ j, j < 320 → U'.a 38 j = iP (dO S (O ++ [i]) j)) ∧ (∀ j, dO S (O ++ [i]) j → U'.a 28 j = S.val j) ∧ (∀ j, dO S (O ++ [i]) j → Trc S.E j j → U'.a 30 j = I (S.tn j) ∧ U'.a 37 j = (if S.us j then 1 else 0)), ?_, ?_⟩
  · by_cases ht : Trc S.E i i
    · rw [(x.K i (by omega)).1 ⟨hi, ht⟩, hh0]
      refine brF (I_neg1_ne (by omega)) ?_
      refine pt_turnsKnot W P R IS X x hi ht hh0 ?_
      intro U' F' v' m1 m2
      obtain ⟨r1, r2⟩ := hre.1 ht
      refine ⟨Z.F.trans (F'.mono (by decide) (by decide)), (F'.s 272 (by decide)).trans Z.n, F'.a 31 (by decide), fun j hj => ?_, fun j hj => ?_, fun j hj htj => ?_⟩
      · by_cases hc : j ∈ cls S.E S.M i
        · rw [(m1 j hc).2.2, iP_pos (dO_snoc.2 (.inr hc))]
        · rw [(m2 j hc).2.2, Z.d j hj]
          exact iP_congr ⟨fun hh => dO_snoc.2 (.inl hh), fun hh => (dO_snoc.1 hh).resolve_right hc⟩
      · rw [v']
        by_cases hc : j ∈ cls S.E S.M i
        · exact r1 j hc
        · rw [knot_out hc]; exact Z.v j ((dO_snoc.1 hj).resolve_right hc)
      · by_cases hc : j ∈ cls S.E S.M i
        · have ec := cls_eq (M := S.M) (mem_cls.1 hc).2.1 (mem_cls.1 hc).2.2
          have z1 : S.tn j = S.tn i := by unfold Ist.tn; rw [ec]
          have z2 : S.us j = S.us i := by unfold Ist.us; rw [ec]
          rw [(m1 j hc).1, (m1 j hc).2.1, r2, z1, z2]
          exact ⟨rfl, rfl⟩
        · rw [(m2 j hc).1, (m2 j hc).2.1]
          exact Z.t j ((dO_snoc.1 hj).resolve_right hc) htj
    · rw [(x.K i (by omega)).2 (fun hh => ht hh.2)]
      refine brT rfl ?_
      refine pt_worked W X P R x.J x.B ((IS.vv i).1 hi) ?_
      intro U2 F2
      refine ⟨tix_I rfl (by show _ < 320; omega) (by decide), ?_⟩
      intro U3 hU3
      refine ⟨tix_I rfl (by show _ < 320; omega) (by decide), ?_⟩
      intro U4 hU4
      have hval : V.mk G gv i (U.a 28) = S.val i := by rw [← hre.2 ht, IS.ff]
      rw [hval] at hU3
      have a28 : U4.a 28 = updN (U.a 28) i (S.val i) := by rw [hU4, sa_off _ (by decide), hU3, sa_at, F2.a 28 (by decide)]
      have a38 : U4.a 38 = updN (U.a 38) i 1 := by rw [hU4, sa_at, hU3, sa_off _ (by decide), F2.a 38 (by decide)]; rfl
      have F4 : Tch [28, 38, 42] [] U U4 := by rw [hU4, hU3]; exact ((F2.mono (by decide) (by decide)).sa (by decide) _ _).sa (by decide) _ _
      have hone : ∀ j, j ∈ cls S.E S.M i → j = i := fun j hj => S.alone ht hj
      refine ⟨Z.F.trans (F4.mono (by decide) (by decide)), (F4.s 272 (by decide)).trans Z.n, F4.a 31 (by decide), fun j hj => ?_, fun j hj => ?_, fun j hj htj => ?_⟩
      · rw [a38]
        by_cases ej : j = i
        · rw [ej, updN_same, iP_pos (dO_snoc.2 (.inr hself))]
        · rw [updN_ne _ _ ej, Z.d j hj]
          exact iP_congr ⟨fun hh => dO_snoc.2 (.inl hh), fun hh => (dO_snoc.1 hh).resolve_right (fun hc => ej (hone j hc))⟩
      · rw [a28]
        by_cases ej : j = i
        · rw [ej, updN_same]
        · rw [updN_ne _ _ ej]
          exact Z.v j ((dO_snoc.1 hj).resolve_right (fun hc => ej (hone j hc)))
      · have ej : j ≠ i := fun ej => ht (ej ▸ htj)
        rw [F4.a 30 (by decide), F4.a 37 (by decide)]
        exact Z.t j ((dO_snoc.1 hj).resolve_right (fun hc => ej (hone j hc))) htj
  · intro _ U' hU'
    obtain ⟨F', n', o', d', v', t'⟩ := hU'
    rw [n']
    refine ⟨tix_I rfl (by show _ < 320; omega) (by decide), ?_⟩
    intro U2 hU2 U3 hU3
    rw [I_ni (by omega)] at hU2
    have s272 : U3.s 272 = I (O.length + 1) := by
      rw [hU3, ss_s, if_pos rfl, hU2, sa_sc, n']
      (try simp (disch := omega) only [L_le, le_L, L_lt, lt_L, eq_L, L_eq, I_le, I_lt, I_eq, I_ni, add_L, L_add, I_add, mul_L, L_mul, I_mul, sub_L, L_sub, I_sub, div_L, rem_L])
    have a31 : U3.a 31 = updN (U.a 31) O.length (I i) := by rw [hU3, ss_a, hU2, sa_at, o']
    have F3 : Tch [31] [272] U' U3 := by rw [hU3, hU2]; exact ((Tch.refl U').sa (by decide) _ _).ss (by decide) _
    refine hK U3 ⟨F'.trans (F3.mono (by decide) (by decide)), by rw [F3.a 38 (by decide)]; exact d', by rw [F3.a 28 (by decide)]; exact v', by rw [F3.a 30 (by decide), F3.a 37 (by decide)]; exact t', by rw [s272, List.length_append]; rfl, fun n hn => ?_, Z.k.snoc hi hh0 hnd hr, by rw [List.length_append]; show O.length + 1 ≤ _; omega⟩
    rw [List.length_append] at hn
    have hn' : n < O.length + 1 := hn
    rw [a31]
    by_cases e : n = O.length
    · rw [e, updN_same, getD_app_eq]
    · rw [updN_ne _ _ e, getD_app_lt _ (by omega)]
      exact Z.o n (by omega)

theorem pt_settles (W : G.WF) (P : V.PO G) (R : G.RL) (IS : IsI S G V gv) (X : V.WF G) (J : TwI T G V gv) {Q : TS → Prop} (h : ∀ U O, Tch [26, 27, 28, 29, 30, 31, 34, 35, 36, 37, 38, 42] [272] T U → TwX U G V gv S → TwE U S O → Q U) : wp_X1_settles T Q := by
  have h40 := X.n40
  have hMM := IS.mm
  unfold wp_X1_settles
  refine pt_laysBases W X P J ?_
  intro T1 F1 B1
  have J1 := J.keep F1 (by decide) (by decide) (by decide) (by decide) (by decide) (by decide)
  refine pt_laysReach W X P J1 B1 ?_
  intro T2 F2 N2 M2
  have J2 := J1.keep F2 (by decide) (by decide) (by decide) (by decide) (by decide) (by decide)
  have B2 := B1.keep F2 (by decide) (by decide) (by decide)
  rw [← IS.ee] at N2 M2
  refine pt_laysKnots IS X B2 M2 ?_
  intro T3 F3 K3
  have x3 : TwX T3 G V gv S := ⟨J2.keep F3 (by decide) (by decide) (by decide) (by decide) (by decide) (by decide), B2.keep F3 (by decide) (by decide) (by decide), by rw [F3.a 34 (by decide)]; exact N2, by rw [F3.a 35 (by decide)]; exact M2, K3⟩
  have F03 : Tch [26, 27, 28, 29, 30, 31, 34, 35, 36, 37, 38, 42] [272] T T3 := ((F1.mono (by decide) (by decide)).trans (F2.mono (by decide) (by decide))).trans (F3.mono (by decide) (by decide))
  clear F1 F2 F3 J1 J2 B1 B2 N2 M2 K3 J
  refine tlp_cnt 320 (fun k s U => s = I k ∧ Tch [38] [] T3 U ∧ ∀ j, j < k → U.a 38 j = 0) ⟨rfl, Tch.refl T3, fun j hj => by omega⟩ ?_
  intro k s U K hk hh hK
  obtain ⟨hs, F, h1⟩ := hh
  rw [hs]
  clear hs s
  by_cases e : k = 320
  rotate_left
  · refine brF (by (first | omega | ((try simp (disch := omega) only [L_le, le_L, L_lt, lt_L, eq_L, L_eq, I_le, I_lt, I_eq, I_ni, add_L, L_add, I_add, mul_L, L_mul, I_mul, sub_L, L_sub, I_sub, div_L, rem_L]); done) | ((try simp (disch := omega) only [L_le, le_L, L_lt, lt_L, eq_L, L_eq, I_le, I_lt, I_eq, I_ni, add_L, L_add, I_add, mul_L, L_mul, I_mul, sub_L, L_sub, I_sub, div_L, rem_L]); omega))) ⟨tix_I rfl (by show _ < 320; omega) (by decide), ?_⟩
    intro U1 hU1
    rw [I_ni (by omega)] at hU1
    (try simp (disch := omega) only [L_le, le_L, L_lt, lt_L, eq_L, L_eq, I_le, I_lt, I_eq, I_ni, add_L, L_add, I_add, mul_L, L_mul, I_mul, sub_L, L_sub, I_sub, div_L, rem_L])
    refine hK _ _ (by omega) ⟨rfl, by rw [hU1]; exact F.sa (by decide) _ _, fun i hi => ?_⟩
    rw [hU1, sa_at]
    by_cases ei : i = k
    · rw [ei, updN_same]; rfl
    · rw [updN_ne _ _ ei]; exact h1 i (by omega)
  refine brT (by (first | omega | ((try simp (disch := omega) only [L_le, le_L, L_lt, lt_L, eq_L, L_eq, I_le, I_lt, I_eq, I_ni, add_L, L_add, I_add, mul_L, L_mul, I_mul, sub_L, L_sub, I_sub, div_L, rem_L]); done) | ((try simp (disch := omega) only [L_le, le_L, L_lt, lt_L, eq_L, L_eq, I_le, I_lt, I_eq, I_ni, add_L, L_add, I_add, mul_L, L_mul, I_mul, sub_L, L_sub, I_sub, div_L, rem_L]); omega))) ?_
  intro U1 hU1
  have Z1 : TwO T3 U1 S [] := by
    refine ⟨by rw [hU1]; exact (F.mono (by decide) (by decide)).ss (by decide) _, fun j hj => ?_, fun j hj => absurd hj (dO_nil j), fun j hj => absurd hj (dO_nil j), ?_, fun n hn => absurd hn (Nat.not_lt_zero _), fun n hn => absurd hn (Nat.not_lt_zero _), Nat.zero_le _⟩
    · rw [hU1, ss_a, h1 j (by omega), iP_neg (dO_nil j)]
    · rw [hU1, ss_s, if_pos rfl]; rfl
  clear hU1 F h1 hK K hk e k U
  -- pass by pass
  refine ⟨fun n s U => ∃ O, TwO T3 U S O ∧ ((s = 0 ∧ ∀ j, S.V j → dO S O j) ∨ (s = 1 ∧ n = 321 - O.length)), ⟨321, [], Z1, .inr ⟨rfl, rfl⟩⟩, ?_⟩
  clear Z1 U1
  rintro n s U ⟨O, Z, hs⟩
  have hO : O.length ≤ 320 := by have := Z.c; have := cnP_le (dO S O) S.M; omega
  rcases hs with ⟨hs, hall⟩ | ⟨hs, hn⟩
  · rw [hs]
    refine brT rfl (h U O (F03.trans (Z.F.mono (by decide) (by decide))) (x3.keep Z.F (by decide) (by decide)) ⟨fun j hj => Z.v j (hall j hj), fun j hj => Z.t j (hall j hj), Z.n, Z.o, Z.k, by have := Z.c; have := cnP_le (dO S O) S.M; omega, hall⟩)
  rw [hs]
  clear hs s
  refine brF (by decide) ?_
  refine tlp_cnt (8 * V.n) (fun i s U2 => ∃ O2, TwO T3 U2 S O2 ∧ ((s = (0, I i) ∧ O2 = O ∧ ∀ i', i' < i → ¬ prc S O i') ∨ (s = (1, I i) ∧ O.length < O2.length))) ⟨O, Z, .inl ⟨rfl, rfl, fun i' hi' => by omega⟩⟩ ?_
  clear Z U
  intro i s U K hi hh hK
  obtain ⟨O2, Z, hs⟩ := hh
  have x := x3.keep Z.F (by decide) (by decide)
  have hO2 : O2.length ≤ 320 := by have := Z.c; have := cnP_le (dO S O2) S.M; omega
  obtain ⟨fl, hfl⟩ : ∃ fl, s = (fl, I i) := by rcases hs with hh | hh <;> exact ⟨_, hh.1⟩
  subst hfl
  rw [x.J.n]
  (try simp (disch := omega) only [L_le, le_L, L_lt, lt_L, eq_L, L_eq, I_le, I_lt, I_eq, I_ni, add_L, L_add, I_add, mul_L, L_mul, I_mul, sub_L, L_sub, I_sub, div_L, rem_L])
  by_cases e : i = 8 * V.n
  · refine brT (by omega) ?_
    rcases hs with ⟨h1, h2, h3⟩ | ⟨h1, h2⟩
    · have : fl = 0 := (Prod.mk.inj h1).1
      rw [this]
      subst h2
      exact ⟨0, by omega, O2, Z, .inl ⟨rfl, fun j hj => prc_all (fun i' hi' => h3 i' (by have := S.hV i' hi'; omega)) _ j (Nat.lt_succ_self _) hj⟩⟩
    · have : fl = 1 := (Prod.mk.inj h1).1
      rw [this]
      exact ⟨321 - O2.length, by omega, O2, Z, .inr ⟨rfl, rfl⟩⟩
  have hi' : i < 8 * V.n := by omega
  have skip : ¬ prc S O2 i → K (fl, I (i + 1)) U := by
    intro hn2
    refine hK _ _ hi' ⟨O2, Z, ?_⟩
    rcases hs with ⟨h1, h2, h3⟩ | ⟨h1, h2⟩
    · have : fl = 0 := (Prod.mk.inj h1).1
      refine .inl ⟨by rw [this], h2, fun i' hl => ?_⟩
      by_cases ei : i' = i
      · rw [ei, ← h2]; exact hn2
      · exact h3 i' (by omega)
    · have : fl = 1 := (Prod.mk.inj h1).1
      exact .inr ⟨by rw [this], h2⟩
  have go : ∀ U', TwO T3 U' S (O2 ++ [i]) → K (1, I (i + 1)) U' := by
    intro U' Z'
    refine hK _ _ hi' ⟨O2 ++ [i], Z', .inr ⟨rfl, ?_⟩⟩
    rw [List.length_append]
    show O.length < O2.length + 1
    rcases hs with ⟨_, h2, _⟩ | ⟨_, h2⟩
    · rw [h2]; omega
    · omega
  refine brF (by omega) ⟨tix_I rfl (by show _ < 320; omega) (by decide), ?_⟩
  rw [x.B.th i (by omega)]
  by_cases hV : S.V i
  rotate_left
  · rw [iP_neg (fun hh => hV ((IS.vv i).2 hh))]
    exact brT rfl (skip (fun hh => hV hh.1))
  rw [iP_pos ((IS.vv i).1 hV)]
  refine brF (by decide) ⟨tix_I rfl (by show _ < 320; omega) (by decide), ?_⟩
  rw [Z.d i (by omega)]
  by_cases hd : dO S O2 i
  · rw [iP_pos hd]
    exact brF (by decide) (skip (fun hh => hh.2.1 hd))
  rw [iP_neg hd]
  refine brT rfl ⟨tix_I rfl (by show _ < 320; omega) (by decide), ?_⟩
  by_cases ht : Trc S.E i i
  · have e29 := (x.K i (by omega)).1 ⟨hV, ht⟩
    have hhi := S.hV _ (S.cls_V hV (S.hd_mem hV))
    have hne : ¬ U.a 29 i = -1 := by rw [e29]; exact I_neg1_ne (by omega)
    refine brF hne ⟨tix_I rfl (by show _ < 320; omega) (by decide), ?_⟩
    refine brF hne ⟨tix_I rfl (by show _ < 320; omega) (by decide), ?_⟩
    by_cases hh0 : S.hd i = i
    rotate_left
    · refine brF (fun hh => hh0 ?_) (skip (fun hh => hh0 hh.2.2.1))
      rw [e29] at hh
      exact (I_eq (by omega) (by omega)).1 hh
    refine brT (by rw [e29, hh0]) ?_
    refine pt_isKnotReady IS X x Z.d hV ht hh0 ?_
    by_cases hr : ∀ j y, j ∈ cls S.E S.M i → S.E j y → dO S O2 y ∨ y ∈ cls S.E S.M i
    · rw [iP_pos hr]
      refine brF (by decide) ?_
      exact pt_blk W P R IS X x Z ⟨hV, hd, hh0, hr⟩ go
    · rw [iP_neg hr]
      exact brT rfl (skip (fun hh => hr hh.2.2.2))
  · have e29 := (x.K i (by omega)).2 (fun hh => ht hh.2)
    refine brT e29 ?_
    refine pt_isReady IS X x Z.d hV ?_
    have hone : ∀ j, j ∈ cls S.E S.M i → j = i := fun j hj => S.alone ht hj
    by_cases hr : ∀ j, S.E i j → dO S O2 j ∨ j ∈ cls S.E S.M i
    · rw [iP_pos hr]
      refine brF (by decide) ⟨tix_I rfl (by show _ < 320; omega) (by decide), ?_⟩
      refine brT e29 ?_
      exact pt_blk W P R IS X x Z ⟨hV, hd, S.hd_one hV ht, fun j y hj he => by rw [hone j hj] at he; exact hr y he⟩ go
    · rw [iP_neg hr]
      exact brT rfl (skip (fun hh => hr (fun j hj => hh.2.2.2 i j (S.cls_self hV) hj)))

/-- how many knots there are. -/
theorem pt_knots (IS : IsI S G V gv) (X : V.WF G) (x : TwX T G V gv S) {Q : Int32 → TS → Prop} (h : Q (I (cnP (fun i => S.V i ∧ Trc S.E i i ∧ S.hd i = i) 320)) T) : wp_X1_knots T Q := by
  have h40 := X.n40
  have hMM := IS.mm
  unfold wp_X1_knots
  refine tlp_cnt 320 (fun k s U => U = T ∧ s = (I (cnP (fun i => S.V i ∧ Trc S.E i i ∧ S.hd i = i) k), I k)) ⟨rfl, rfl⟩ ?_
  intro k s U K hk hh hK
  obtain ⟨hU, hs⟩ := hh
  rw [hs, hU]
  clear hs hU s U
  by_cases e : k = 320
  · subst e
    exact brT (by (first | omega | ((try simp (disch := omega) only [L_le, le_L, L_lt, lt_L, eq_L, L_eq, I_le, I_lt, I_eq, I_ni, add_L, L_add, I_add, mul_L, L_mul, I_mul, sub_L, L_sub, I_sub, div_L, rem_L]); done) | ((try simp (disch := omega) only [L_le, le_L, L_lt, lt_L, eq_L, L_eq, I_le, I_lt, I_eq, I_ni, add_L, L_add, I_add, mul_L, L_mul, I_mul, sub_L, L_sub, I_sub, div_L, rem_L]); omega))) h
  have hk' : k < 320 := by omega
  refine brF (by (first | omega | ((try simp (disch := omega) only [L_le, le_L, L_lt, lt_L, eq_L, L_eq, I_le, I_lt, I_eq, I_ni, add_L, L_add, I_add, mul_L, L_mul, I_mul, sub_L, L_sub, I_sub, div_L, rem_L]); done) | ((try simp (disch := omega) only [L_le, le_L, L_lt, lt_L, eq_L, L_eq, I_le, I_lt, I_eq, I_ni, add_L, L_add, I_add, mul_L, L_mul, I_mul, sub_L, L_sub, I_sub, div_L, rem_L]); omega))) ?_
  have hle := cnP_le (fun i => S.V i ∧ Trc S.E i i ∧ S.hd i = i) k
  (try simp (disch := omega) only [L_le, le_L, L_lt, lt_L, eq_L, L_eq, I_le, I_lt, I_eq, I_ni, add_L, L_add, I_add, mul_L, L_mul, I_mul, sub_L, L_sub, I_sub, div_L, rem_L])
  refine ⟨tix_I rfl (by show _ < 320; omega) (by decide), ?_⟩
  rw [x.B.th k hk']
  by_cases hV : S.V k
  rotate_left
  · rw [iP_neg (fun hh => hV ((IS.vv k).2 hh))]
    refine brT rfl (hK _ _ hk' ⟨rfl, ?_⟩)
    rw [cnP_neg (fun hh => hV hh.1)]
    try rfl
  rw [iP_pos ((IS.vv k).1 hV)]
  refine brF (by decide) ⟨tix_I rfl (by show _ < 320; omega) (by decide), ?_⟩
  have hhi := S.hV _ (S.cls_V hV (S.hd_mem hV))
  intro m hm
  by_cases hc : Trc S.E k k ∧ S.hd k = k
  · rw [if_pos (by rw [(x.K k hk').1 ⟨hV, hc.1⟩, hc.2])] at hm
    subst hm
    (try simp (disch := omega) only [L_le, le_L, L_lt, lt_L, eq_L, L_eq, I_le, I_lt, I_eq, I_ni, add_L, L_add, I_add, mul_L, L_mul, I_mul, sub_L, L_sub, I_sub, div_L, rem_L])
    refine hK _ _ hk' ⟨rfl, ?_⟩
    rw [cnP_pos ⟨hV, hc⟩]
  · rw [if_neg (fun hh => ?_)] at hm
    · subst hm
      refine hK _ _ hk' ⟨rfl, ?_⟩
      rw [cnP_neg (fun hh => hc hh.2)]
      try (try simp (disch := omega) only [L_le, le_L, L_lt, lt_L, eq_L, L_eq, I_le, I_lt, I_eq, I_ni, add_L, L_add, I_add, mul_L, L_mul, I_mul, sub_L, L_sub, I_sub, div_L, rem_L])
      try rfl
    · by_cases ht : Trc S.E k k
      · rw [(x.K k hk').1 ⟨hV, ht⟩] at hh
        exact hc ⟨ht, (I_eq (by omega) (by omega)).1 hh⟩
      · rw [(x.K k hk').2 (fun h9 => ht h9.2)] at hh
        exact absurd hh.symm (I_neg1_ne (by omega))
end
