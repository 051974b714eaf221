/-! plain: ax2 -/
set_option maxRecDepth 100000
section
variable {T : TS} {X : AX} {x y z : Int32}

noncomputable def cif {α : Type} (P : Prop) (a b : α) : α := @ite α P (Classical.propDecidable P) a b
theorem cif_pos {α : Type} {P : Prop} (h : P) (a b : α) : cif P a b = a := if_pos h
theorem cif_neg {α : Type} {P : Prop} (h : ¬ P) (a b : α) : cif P a b = b := if_neg h

/-- a number below m. -/
def inR (x : Int32) (m : Nat) : Prop := ∃ k, k < m ∧ x = I k
theorem ni_lt (x : Int32) : ni x < 2147483648 := by
  have := x.toInt_lt
  unfold ni Int32.toNatClampNeg
  omega
theorem nnx {x : Int32} (h : 0 ≤ x) : x = I (ni x) := I_of_ni (by intro hh; exact absurd h (by lia))
theorem inR_iff {m : Nat} (hm : m < 2147483648) : (0 ≤ x ∧ x ≤ I m - 1) ↔ inR x m := by
  by_cases h0 : m = 0
  · subst h0
    constructor
    · rintro ⟨h1, h2⟩
      have e : I 0 - 1 = -1 := by decide
      rw [e] at h2
      exfalso
      have h3 := Int32.le_iff_toInt_le.1 h2
      have h4 := Int32.le_iff_toInt_le.1 h1
      have e2 : (-1 : Int32).toInt = -1 := by decide
      have e3 : (0 : Int32).toInt = 0 := by decide
      omega
    · rintro ⟨k, hk, _⟩; omega
  · rw [show I m - 1 = I (m - 1) from I_sub (a := m) (b := 1) (by omega)]
    constructor
    · rintro ⟨h1, h2⟩
      have e := nnx h1
      have hl := ni_lt x
      rw [e] at h2
      have := (I_le hl (by omega)).1 h2
      exact ⟨ni x, by omega, e⟩
    · rintro ⟨k, hk, rfl⟩
      exact ⟨zero_le_I (by omega), (I_le (by omega) (by omega)).2 (by omega)⟩
theorem inR_ni {m : Nat} (hm : m ≤ 1000000) (h : inR x m) : ni x < m ∧ x = I (ni x) := by
  obtain ⟨k, hk, rfl⟩ := h
  rw [I_ni (by omega)]
  exact ⟨hk, rfl⟩
theorem pt_isFromR {m : Nat} {hi : Int32} (hm : m < 2147483648) (e : hi = I m - 1) {Q : Int32 → TS → Prop} (h : Q (iP (inR x m)) T) : wp_X1_isFrom x 0 hi T Q := by
  refine pt_isFrom ?_
  rw [e]
  by_cases hr : inR x m
  · rw [if_pos ((inR_iff hm).2 hr)]
    rw [iP_pos hr] at h
    exact h
  · rw [if_neg (fun hh => hr ((inR_iff hm).1 hh))]
    rw [iP_neg hr] at h
    exact h

def okS (X : AX) (x : Int32) : Prop := ∃ A ind, X.gr = some (A, ind) ∧ inR x A.g.nS
def okP (X : AX) (x : Int32) : Prop := ∃ A ind, X.gr = some (A, ind) ∧ inR x A.g.nP
def okA (X : AX) (x y : Int32) : Prop := ∃ A ind, X.gr = some (A, ind) ∧ inR x A.g.nS ∧ inR y (A.g.cnt (ni x))
def okO (X : AX) (x y : Int32) : Prop := ∃ A ind, X.gr = some (A, ind) ∧ inR x A.g.nP ∧ 0 ≤ y ∧ A.g.oc (ni x) (ni y)

theorem TwRep.gg (R : TwRep T X) {A : PG} {ind : Nat → Int32} (h : X.gr = some (A, ind)) : A.g.WF ∧ A.g.RL ∧ A.g.IsInd ind ∧ T.s 209 = 1 ∧ TG (T.a 1) A.g ∧ T.a 5 = ind := by
  obtain ⟨a, b, c, _⟩ := R.ok.g A ind h
  obtain ⟨d, ⟨_, e⟩, f⟩ := R.g1 A ind h
  exact ⟨a, b, c, d, e.g, f⟩

theorem pt_isSymbolR (R : TwRep T X) {Q : Int32 → TS → Prop} (h : Q (iP (okS X x)) T) : wp_X1_isSymbol x T Q := by
  unfold wp_X1_isSymbol
  cases hg : X.gr with
  | none =>
    refine brT (R.g0 hg) ?_
    rw [iP_neg (fun ⟨A, ind, e, _⟩ => by rw [hg] at e; exact absurd e (by simp))] at h
    exact h
  | some q =>
    obtain ⟨A, ind⟩ := q
    obtain ⟨W, _, _, s, g, _⟩ := R.gg hg
    have hS := W.nS
    refine brF (by rw [s]; decide) ⟨tix_I (k := 0) rfl (by decide) (by decide), ?_⟩
    rw [show ni 0 = 0 from rfl, g.nS]
    refine pt_isFromR (by omega) rfl ?_
    intro m hm
    have hq : okS X x ↔ inR x A.g.nS := ⟨fun ⟨A', i', e, h'⟩ => by rw [hg] at e; have := Option.some.inj e; rw [← (Prod.mk.inj this).1] at h'; exact h', fun h' => ⟨A, ind, hg, h'⟩⟩
    rw [iP_congr hq] at h
    by_cases hr : inR x A.g.nS
    · rw [iP_pos hr, if_neg (by decide)] at hm
      rw [iP_pos hr] at h
      rw [hm]; exact ⟨.inr rfl, h⟩
    · rw [iP_neg hr, if_pos rfl] at hm
      rw [iP_neg hr] at h
      rw [hm]; exact ⟨.inl rfl, h⟩
theorem pt_isProductionR (R : TwRep T X) {Q : Int32 → TS → Prop} (h : Q (iP (okP X x)) T) : wp_X1_isProduction x T Q := by
  unfold wp_X1_isProduction
  cases hg : X.gr with
  | none =>
    refine brT (R.g0 hg) ?_
    rw [iP_neg (fun ⟨A, ind, e, _⟩ => by rw [hg] at e; exact absurd e (by simp))] at h
    exact h
  | some q =>
    obtain ⟨A, ind⟩ := q
    obtain ⟨W, _, _, s, g, _⟩ := R.gg hg
    have hP := W.nP
    refine brF (by rw [s]; decide) ⟨tix_I (k := 1) rfl (by decide) (by decide), ?_⟩
    rw [show ni 1 = 1 from rfl, g.nP]
    refine pt_isFromR (by omega) rfl ?_
    intro m hm
    have hq : okP X x ↔ inR x A.g.nP := ⟨fun ⟨A', i', e, h'⟩ => by rw [hg] at e; have := Option.some.inj e; rw [← (Prod.mk.inj this).1] at h'; exact h', fun h' => ⟨A, ind, hg, h'⟩⟩
    rw [iP_congr hq] at h
    by_cases hr : inR x A.g.nP
    · rw [iP_pos hr, if_neg (by decide)] at hm
      rw [iP_pos hr] at h
      rw [hm]; exact ⟨.inr rfl, h⟩
    · rw [iP_neg hr, if_pos rfl] at hm
      rw [iP_neg hr] at h
      rw [hm]; exact ⟨.inl rfl, h⟩
theorem pt_isAttributeR (R : TwRep T X) {Q : Int32 → TS → Prop} (h : Q (iP (okA X x y)) T) : wp_X1_isAttribute x y T Q := by
  unfold wp_X1_isAttribute
  refine pt_isSymbolR R ?_
  by_cases hs : okS X x
  rotate_left
  · rw [iP_neg hs]
    refine brT rfl ?_
    rw [iP_neg (fun ⟨A, ind, e, h', _⟩ => hs ⟨A, ind, e, h'⟩)] at h
    exact h
  rw [iP_pos hs]
  obtain ⟨A, ind, hg, hr⟩ := hs
  obtain ⟨W, _, _, s, g, _⟩ := R.gg hg
  have hS := W.nS
  obtain ⟨hn, e⟩ := inR_ni (by omega) hr
  have hc := W.cnt8 hn
  refine brF (by decide) ?_
  have key : wp_X1_attributes (I (ni x)) T fun r5 T4 => wp_X1_isFrom y 0 (r5 - 1) T4 fun r7 T6 => ∀ m8 : Int32, m8 = (if r7 = 0 then 0 else 1) → bz m8 ∧ Q m8 T6 := by
    refine pt_attributes W g rfl hn ?_
    refine pt_isFromR (by omega) rfl ?_
    intro m hm
    have hq : okA X x y ↔ inR y (A.g.cnt (ni x)) := ⟨fun ⟨A', i', e', _, h'⟩ => by rw [hg] at e'; have := Option.some.inj e'; rw [← (Prod.mk.inj this).1] at h'; exact h', fun h' => ⟨A, ind, hg, hr, h'⟩⟩
    rw [iP_congr hq] at h
    by_cases hr : inR y (A.g.cnt (ni x))
    · rw [iP_pos hr, if_neg (by decide)] at hm
      rw [iP_pos hr] at h
      rw [hm]; exact ⟨.inr rfl, h⟩
    · rw [iP_neg hr, if_pos rfl] at hm
      rw [iP_neg hr] at h
      rw [hm]; exact ⟨.inl rfl, h⟩
  rw [← e] at key
  exact key
theorem pt_isOccR (R : TwRep T X) {Q : Int32 → TS → Prop} (h : Q (iP (okO X x y)) T) : wp_X1_isOcc x y T Q := by
  by_cases hp : okP X x
  · obtain ⟨A, ind, hg, hr⟩ := hp
    obtain ⟨W, _, _, s, g, _⟩ := R.gg hg
    have hP := W.nP
    obtain ⟨hn, e⟩ := inR_ni (by omega) hr
    have hq : okO X x y ↔ 0 ≤ y ∧ A.g.oc (ni x) (ni y) := ⟨fun ⟨A', i', e', _, h'⟩ => by rw [hg] at e'; have := Option.some.inj e'; rw [← (Prod.mk.inj this).1] at h'; exact h', fun h' => ⟨A, ind, hg, hr, h'⟩⟩
    rw [iP_congr hq] at h
    by_cases h0 : 0 ≤ y
    · have ey := nnx h0
      have key := pt_isOcc (T := T) (Q := Q) W g rfl s hn (ni_lt y) (by
        by_cases ho : A.g.oc (ni x) (ni y)
        · rw [if_pos ho]; rw [iP_pos ⟨h0, ho⟩] at h; exact h
        · rw [if_neg ho]; rw [iP_neg (fun hh => ho hh.2)] at h; exact h)
      rw [← e, ← ey] at key
      exact key
    · unfold wp_X1_isOcc
      refine pt_isProductionR R ?_
      rw [iP_pos ⟨A, ind, hg, hr⟩]
      rw [iP_neg (fun hh => h0 hh.1)] at h
      refine brT (.inr (by lia)) h
  · unfold wp_X1_isOcc
    refine pt_isProductionR R ?_
    rw [iP_neg hp]
    refine brT (.inl rfl) ?_
    rw [iP_neg (fun ⟨A, ind, e, h', _⟩ => hp ⟨A, ind, e, h'⟩)] at h
    exact h

/-- the structure of instances that there is. -/
noncomputable def AX.S (X : AX) : Ist := match X.gr, X.tr with
  | some q, some r => istO q.1.g r.1 r.2.2
  | _, _ => Ist.nil
/-- an answer and a status. -/
abbrev An : Type := Int32 × Int32
noncomputable def qMany (X : AX) (x : Int32) : An :=
  cif (inR x 5) (if x = 4 then (match X.tr with
      | none => (-1, 3)
      | some _ => (I (cnP (fun i => X.S.V i ∧ Trc X.S.E i i ∧ X.S.hd i = i) 320), 0))
    else if x = 3 then (match X.tr with
      | none => (0, 0)
      | some r => (I r.1.n, 0))
    else match X.gr with
      | none => (0, 0)
      | some q => (if x = 0 then I q.1.g.nS else if x = 1 then I q.1.g.nP else I (nRl q.1.g), 0)) (-1, 1)
theorem TwRep.tt1 (R : TwRep T X) {V : Tv} {sz : Nat → Nat} {gv : Nat → Int32} (h : X.tr = some (V, sz, gv)) : ∃ A ind, X.gr = some (A, ind) ∧ trK A V sz ∧ IsI X.S A.g V gv ∧ TwX T A.g V gv X.S ∧ (∃ O, TwE T X.S O) ∧ T.s 250 = I V.n ∧ 1 ≤ V.n ∧ V.n ≤ 40 := by
  obtain ⟨A, ind, hg, K, _⟩ := R.ok.t V sz gv h
  obtain ⟨W, RL, _⟩ := R.ok.g A ind hg
  obtain ⟨q1, q2⟩ := R.t1 V sz gv A ind h hg
  have e : X.S = istO A.g V gv := by unfold AX.S; rw [hg, h]
  rw [e]
  exact ⟨A, ind, hg, K, istO_I gv W K.WF RL, q1, q2, q1.J.n, K.n1, K.n40⟩
theorem pt_many (R : TwRep T X) {Q : Int32 → TS → Prop} (h : ∀ U, TwRep U (X.ws (qMany X x).2) → Q (qMany X x).1 U) : wp_X1_many x T Q := by
  unfold wp_X1_many
  refine pt_isFromR (m := 5) (by decide) (by decide) ?_
  unfold qMany at h
  by_cases hr : inR x 5
  rotate_left
  · rw [iP_neg hr]
    rw [cif_neg hr] at h
    exact brT rfl (pt_refuse R h)
  rw [iP_pos hr]
  rw [cif_pos hr] at h
  refine brF (by decide) ?_
  by_cases h4 : x = 4
  · rw [if_pos h4] at h
    refine brT h4 ?_
    cases ht : X.tr with
    | none =>
      rw [ht] at h
      exact brT (R.t0 ht) (pt_refuse R h)
    | some r =>
      obtain ⟨V, sz, gv⟩ := r
      rw [ht] at h
      obtain ⟨A, ind, hg, K, IS, q1, q2, q3, q4, q5⟩ := R.tt1 ht
      refine brF (by rw [q3]; intro hh; have := (I0 (by omega)).1 hh; omega) ?_
      exact pt_knots IS K.WF q1 (pt_gives R h)
  rw [if_neg h4] at h
  refine brF h4 ?_
  by_cases h3 : x = 3
  · rw [if_pos h3] at h
    refine brT h3 ?_
    cases ht : X.tr with
    | none =>
      rw [ht] at h
      rw [R.t0 ht]
      exact pt_gives R h
    | some r =>
      obtain ⟨V, sz, gv⟩ := r
      rw [ht] at h
      obtain ⟨A, ind, hg, K, IS, q1, q2, q3, q4, q5⟩ := R.tt1 ht
      rw [q3]
      exact pt_gives R h
  rw [if_neg h3] at h
  refine brF h3 ?_
  cases hg : X.gr with
  | none =>
    rw [hg] at h
    exact brT (R.g0 hg) (pt_gives R h)
  | some q =>
    obtain ⟨A, ind⟩ := q
    rw [hg] at h
    obtain ⟨W, _, _, s, g, _⟩ := R.gg hg
    obtain ⟨_, ⟨c, Y⟩, _⟩ := R.g1 A ind hg
    refine brF (by rw [s]; decide) ?_
    obtain ⟨k, hk, e⟩ := hr
    subst e
    have hk3 : k < 3 := by
      have a : k ≠ 4 := fun e => h4 (by rw [e]; rfl)
      have b : k ≠ 3 := fun e => h3 (by rw [e]; rfl)
      omega
    refine ⟨tix_I rfl (by show _ < 3816; omega) (by decide), ?_⟩
    rw [I_ni (by omega)]
    have e9 : T.a 1 k = (if I k = 0 then I A.g.nS else if I k = 1 then I A.g.nP else I (nRl A.g)) := by
      rcases (show k = 0 ∨ k = 1 ∨ k = 2 by omega) with e | e | e
      · subst e; rw [if_pos (show I 0 = 0 from rfl)]; exact g.nS
      · subst e; rw [if_neg (show ¬ I 1 = 0 by decide), if_pos (show I 1 = 1 from rfl)]; exact g.nP
      · subst e; rw [if_neg (show ¬ I 2 = 0 by decide), if_neg (show ¬ I 2 = 1 by decide)]; exact Y.z
    rw [e9]
    exact pt_gives R h

noncomputable def qSymbol (X : AX) (x y : Int32) : An :=
  cif (inR y 4) (cif (okS X x) (match X.gr with
    | none => (0, 0)
    | some q => if y = 0 then (I (q.1.g.ins (ni x)), 0) else if y = 1 then (I (q.1.g.cnt (ni x) - q.1.g.ins (ni x)), 0)
      else if y = 2 then (I (cnP (fun p => q.1.g.sy p 0 = ni x) q.1.g.nP), 0)
      else if q.1.g.self q.2 (ni x) then (-1, 7) else (I (q.1.g.vs q.2 (ni x)), 0)) (-1, 4)) (-1, 1)
theorem pt_symbol (R : TwRep T X) {Q : Int32 → TS → Prop} (h : ∀ U, TwRep U (X.ws (qSymbol X x y).2) → Q (qSymbol X x y).1 U) : wp_X1_symbol x y T Q := by
  unfold wp_X1_symbol
  refine pt_isFromR (m := 4) (by decide) (by decide) ?_
  unfold qSymbol at h
  by_cases hr : inR y 4
  rotate_left
  · rw [iP_neg hr]
    rw [cif_neg hr] at h
    exact brT rfl (pt_refuse R h)
  rw [iP_pos hr]
  rw [cif_pos hr] at h
  refine brF (by decide) ?_
  refine pt_isSymbolR R ?_
  by_cases hs : okS X x
  rotate_left
  · rw [iP_neg hs]
    rw [cif_neg hs] at h
    exact brT rfl (pt_refuse R h)
  rw [iP_pos hs]
  rw [cif_pos hs] at h
  refine brF (by decide) ?_
  obtain ⟨A, ind, hg, hxs⟩ := hs
  obtain ⟨W, RL, hI, s, g, h5⟩ := R.gg hg
  rw [hg] at h
  dsimp only at h
  have hS := W.nS
  have hP := W.nP
  obtain ⟨k, hk, e⟩ := hxs
  subst e
  rw [I_ni (by omega)] at h
  have hi4 := W.ins k hk
  have hc8 := W.cnt8 hk
  obtain ⟨j, hj, e⟩ := hr
  subst e
  rcases (show j = 0 ∨ j = 1 ∨ j = 2 ∨ j = 3 by omega) with e | e | e | e
  · subst e
    rw [if_pos (show I 0 = 0 from rfl)] at h
    refine brF (by decide) ?_
    rintro m hm
    rw [if_pos (show I 0 = 0 from rfl)] at hm
    rw [hm]
    (try simp (disch := omega) only [L_le, le_L, L_lt, lt_L, eq_L, L_eq, I_le, I_lt, I_eq, I_ni, add_L, L_add, I_add, mul_L, L_mul, I_mul, sub_L, L_sub, I_sub, div_L, rem_L])
    refine ⟨tix_I rfl (by show _ < 3816; omega) (by decide), ?_⟩
    rw [g.ins k hk]
    exact pt_gives R h
  · subst e
    rw [if_neg (show ¬ I 1 = 0 by decide), if_pos (show I 1 = 1 from rfl)] at h
    refine brF (by decide) ?_
    rintro m hm
    rw [if_neg (show ¬ I 1 = 0 by decide)] at hm
    rw [hm]
    (try simp (disch := omega) only [L_le, le_L, L_lt, lt_L, eq_L, L_eq, I_le, I_lt, I_eq, I_ni, add_L, L_add, I_add, mul_L, L_mul, I_mul, sub_L, L_sub, I_sub, div_L, rem_L])
    refine ⟨tix_I rfl (by show _ < 3816; omega) (by decide), ?_⟩
    rw [g.outs k hk]
    exact pt_gives R h
  · subst e
    rw [if_neg (show ¬ I 2 = 0 by decide), if_neg (show ¬ I 2 = 1 by decide), if_pos (show I 2 = 2 from rfl)] at h
    refine brT (by decide) (brT rfl ?_)
    refine tlp_cnt A.g.nP (fun p s U => U = T ∧ s = (I (cnP (fun p => A.g.sy p 0 = k) p), I p)) ⟨rfl, rfl⟩ ?_
    intro p s U K hp hh hK
    obtain ⟨hU, hs⟩ := hh
    rw [hU, hs]
    refine ⟨tix_I (k := 1) rfl (by decide) (by decide), ?_⟩
    rw [show ni 1 = 1 from rfl, g.nP]
    by_cases ep : p = A.g.nP
    · subst ep
      exact brT (by (first | omega | ((try simp (disch := omega) only [L_le, le_L, L_lt, lt_L, eq_L, L_eq, I_le, I_lt, I_eq, I_ni, add_L, L_add, I_add, mul_L, L_mul, I_mul, sub_L, L_sub, I_sub, div_L, rem_L]); done) | ((try simp (disch := omega) only [L_le, le_L, L_lt, lt_L, eq_L, L_eq, I_le, I_lt, I_eq, I_ni, add_L, L_add, I_add, mul_L, L_mul, I_mul, sub_L, L_sub, I_sub, div_L, rem_L]); omega))) (pt_gives R h)
    refine brF (by (first | omega | ((try simp (disch := omega) only [L_le, le_L, L_lt, lt_L, eq_L, L_eq, I_le, I_lt, I_eq, I_ni, add_L, L_add, I_add, mul_L, L_mul, I_mul, sub_L, L_sub, I_sub, div_L, rem_L]); done) | ((try simp (disch := omega) only [L_le, le_L, L_lt, lt_L, eq_L, L_eq, I_le, I_lt, I_eq, I_ni, add_L, L_add, I_add, mul_L, L_mul, I_mul, sub_L, L_sub, I_sub, div_L, rem_L]); omega))) ?_
    have hle := cnP_le (fun p => A.g.sy p 0 = k) p
    have hsy := W.sy p 0 (by omega) (Nat.zero_le _)
    (try simp (disch := omega) only [L_le, le_L, L_lt, lt_L, eq_L, L_eq, I_le, I_lt, I_eq, I_ni, add_L, L_add, I_add, mul_L, L_mul, I_mul, sub_L, L_sub, I_sub, div_L, rem_L])
    refine ⟨tix_I rfl (by show _ < 3816; omega) (by decide), ?_⟩
    rw [g.left p (by omega)]
    intro m hm
    by_cases hc : A.g.sy p 0 = k
    · rw [if_pos (by rw [hc])] at hm
      rw [hm]
      (try simp (disch := omega) only [L_le, le_L, L_lt, lt_L, eq_L, L_eq, I_le, I_lt, I_eq, I_ni, add_L, L_add, I_add, mul_L, L_mul, I_mul, sub_L, L_sub, I_sub, div_L, rem_L])
      refine hK _ _ (by omega) ⟨rfl, ?_⟩
      rw [cnP_pos (P := fun p => A.g.sy p 0 = k) hc]
    · rw [if_neg (fun hh => hc ((I_eq (by omega) (by omega)).1 hh))] at hm
      rw [hm]
      refine hK _ _ (by omega) ⟨rfl, ?_⟩
      rw [cnP_neg (P := fun p => A.g.sy p 0 = k) hc]
      (try simp (disch := omega) only [L_le, le_L, L_lt, lt_L, eq_L, L_eq, I_le, I_lt, I_eq, I_ni, add_L, L_add, I_add, mul_L, L_mul, I_mul, sub_L, L_sub, I_sub, div_L, rem_L])
      try rfl
  · subst e
    rw [if_neg (show ¬ I 3 = 0 by decide), if_neg (show ¬ I 3 = 1 by decide), if_neg (show ¬ I 3 = 2 by decide)] at h
    refine brT (by decide) (brF (by decide) ?_)
    refine pt_isSelf W g rfl hk ?_
    rw [h5]
    by_cases hself : A.g.self ind k = true
    · rw [if_pos hself] at h ⊢
      exact brF (by decide) (pt_refuse R h)
    · rw [if_neg hself] at h ⊢
      refine brT rfl ?_
      have hself' : A.g.self ind k = false := by simpa using hself
      refine pt_laysVisits W g rfl hk (by rw [h5]; exact hI.acy W hk hself') ?_
      intro U F V _ _ _
      rw [h5] at V
      refine ⟨tix_I rfl (by show _ < 8; omega) (by decide), ?_⟩
      rw [I_ni (by omega), V.1]
      exact pt_gives (R.keep F (by decide) (by decide)) h
end
