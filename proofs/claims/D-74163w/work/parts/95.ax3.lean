/-! plain: ax3 -/
set_option maxRecDepth 100000
section
variable {T : TS} {X : AX} {x y z u : Int32}

/-- a plan's steps. -/
noncomputable def Gv.plL (G : Gv) (ind : Nat → Int32) (p : Nat) : List Int32 := @dite _ (∃ q, G.IsPl ind p q) (Classical.propDecidable _) (fun h => h.choose.2.2.2) (fun _ => [])
theorem Gv.plL_eq {G : Gv} {ind : Nat → Int32} {p : Nat} {q : PSt} (h : G.IsPl ind p q) : G.plL ind p = q.2.2.2 := by
  unfold Gv.plL
  have hx : ∃ q, G.IsPl ind p q := ⟨q, h⟩
  rw [dif_pos hx, hx.choose_spec.unique h]

noncomputable def qProduction (X : AX) (x y : Int32) : An :=
  cif (inR y 6) (cif (okP X x) (match X.gr with
    | none => (0, 0)
    | some q => if y = 0 then (I (q.1.g.sy (ni x) 0), 0) else if y = 1 then (I (q.1.g.kn (ni x)), 0)
      else if y = 5 then (I (cnP (fun o => q.1.g.rl (ni x) o ≠ none) 32), 0)
      else if ni y - 1 ≤ q.1.g.kn (ni x) then (I (q.1.g.sy (ni x) (ni y - 1)), 0) else (-1, 7)) (-1, 4)) (-1, 1)
theorem pt_production (R : TwRep T X) {Q : Int32 → TS → Prop} (h : ∀ U, TwRep U (X.ws (qProduction X x y).2) → Q (qProduction X x y).1 U) : wp_X1_production x y T Q := by
  unfold wp_X1_production
  refine pt_isFromR (m := 6) (by decide) (by decide) ?_
  unfold qProduction at h
  by_cases hr : inR y 6
  rotate_left
  · rw [iP_neg hr]
    rw [cif_neg hr] at h
    exact brT rfl (pt_refuse R h)
  rw [iP_pos hr]
  rw [cif_pos hr] at h
  refine brF (by decide) ?_
  refine pt_isProductionR R ?_
  by_cases hs : okP X x
  rotate_left
  · rw [iP_neg hs]
    rw [cif_neg hs] at h
    exact brT rfl (pt_refuse R h)
  rw [iP_pos hs]
  rw [cif_pos hs] at h
  refine brF (by decide) ?_
  obtain ⟨A, ind, hg, hxs⟩ := hs
  obtain ⟨W, RL, hI, s, g, h5⟩ := R.gg hg
  obtain ⟨_, ⟨c, Y⟩, _⟩ := R.g1 A ind hg
  rw [hg] at h
  dsimp only at h
  have hS := W.nS
  have hP := W.nP
  obtain ⟨k, hk, e⟩ := hxs
  subst e
  rw [I_ni (by omega)] at h
  have hk3 := W.kn k hk
  obtain ⟨j, hj, e⟩ := hr
  subst e
  by_cases j0 : j = 0
  · subst j0
    rw [if_pos (show I 0 = 0 from rfl)] at h
    refine brT rfl ?_
    (try simp (disch := omega) only [L_le, le_L, L_lt, lt_L, eq_L, L_eq, I_le, I_lt, I_eq, I_ni, add_L, L_add, I_add, mul_L, L_mul, I_mul, sub_L, L_sub, I_sub, div_L, rem_L])
    refine ⟨tix_I rfl (by show _ < 3816; omega) (by decide), ?_⟩
    rw [g.left k hk]
    exact pt_gives R h
  rw [if_neg (fun hh => j0 ((eq_L 0 (by decide) (by omega)).1 hh))] at h
  refine brF (fun hh => j0 ((eq_L 0 (by decide) (by omega)).1 hh)) ?_
  by_cases j1 : j = 1
  · subst j1
    rw [if_pos (show I 1 = 1 from rfl)] at h
    refine brT rfl ?_
    (try simp (disch := omega) only [L_le, le_L, L_lt, lt_L, eq_L, L_eq, I_le, I_lt, I_eq, I_ni, add_L, L_add, I_add, mul_L, L_mul, I_mul, sub_L, L_sub, I_sub, div_L, rem_L])
    refine ⟨tix_I rfl (by show _ < 3816; omega) (by decide), ?_⟩
    rw [g.kn k hk]
    exact pt_gives R h
  rw [if_neg (fun hh => j1 ((eq_L 1 (by decide) (by omega)).1 hh))] at h
  refine brF (fun hh => j1 ((eq_L 1 (by decide) (by omega)).1 hh)) ?_
  by_cases j5 : j = 5
  · subst j5
    rw [if_pos (show I 5 = 5 from rfl)] at h
    refine brT (by decide) ?_
    refine tlp_cnt 32 (fun o s U => U = T ∧ s = (I (cnP (fun o => A.g.rl k o ≠ none) o), I o)) ⟨rfl, rfl⟩ ?_
    intro o s U K ho hh hK
    obtain ⟨hU, hs⟩ := hh
    rw [hU, hs]
    by_cases eo : o = 32
    · subst eo
      exact brT (by (first | omega | ((try simp (disch := omega) only [L_le, le_L, L_lt, lt_L, eq_L, L_eq, I_le, I_lt, I_eq, I_ni, add_L, L_add, I_add, mul_L, L_mul, I_mul, sub_L, L_sub, I_sub, div_L, rem_L]); done) | ((try simp (disch := omega) only [L_le, le_L, L_lt, lt_L, eq_L, L_eq, I_le, I_lt, I_eq, I_ni, add_L, L_add, I_add, mul_L, L_mul, I_mul, sub_L, L_sub, I_sub, div_L, rem_L]); omega))) (pt_gives R h)
    refine brF (by (first | omega | ((try simp (disch := omega) only [L_le, le_L, L_lt, lt_L, eq_L, L_eq, I_le, I_lt, I_eq, I_ni, add_L, L_add, I_add, mul_L, L_mul, I_mul, sub_L, L_sub, I_sub, div_L, rem_L]); done) | ((try simp (disch := omega) only [L_le, le_L, L_lt, lt_L, eq_L, L_eq, I_le, I_lt, I_eq, I_ni, add_L, L_add, I_add, mul_L, L_mul, I_mul, sub_L, L_sub, I_sub, div_L, rem_L]); omega))) ?_
    have hle := cnP_le (fun o => A.g.rl k o ≠ none) o
    (try simp (disch := omega) only [L_le, le_L, L_lt, lt_L, eq_L, L_eq, I_le, I_lt, I_eq, I_ni, add_L, L_add, I_add, mul_L, L_mul, I_mul, sub_L, L_sub, I_sub, div_L, rem_L])
    refine ⟨tix_I rfl (by show _ < 3816; omega) (by decide), ?_⟩
    cases hrl : A.g.rl k o with
    | none =>
      rw [(Y.k.cn k o hk (by omega) hrl).2.2]
      refine hK _ _ (by omega) ⟨rfl, ?_⟩
      rw [cnP_neg (P := fun o => A.g.rl k o ≠ none) (fun hh => hh hrl)]
      (try simp (disch := omega) only [L_le, le_L, L_lt, lt_L, eq_L, L_eq, I_le, I_lt, I_eq, I_ni, add_L, L_add, I_add, mul_L, L_mul, I_mul, sub_L, L_sub, I_sub, div_L, rem_L])
      try rfl
    | some e =>
      obtain ⟨f, _, _, c3, _⟩ := Y.k.cs k o e hk (by omega) hrl
      rw [c3]
      (try simp (disch := omega) only [L_le, le_L, L_lt, lt_L, eq_L, L_eq, I_le, I_lt, I_eq, I_ni, add_L, L_add, I_add, mul_L, L_mul, I_mul, sub_L, L_sub, I_sub, div_L, rem_L])
      refine hK _ _ (by omega) ⟨rfl, ?_⟩
      rw [cnP_pos (P := fun o => A.g.rl k o ≠ none) (fun hh => by rw [hrl] at hh; exact absurd hh (by simp))]
  rw [if_neg (fun hh => j5 ((eq_L 5 (by decide) (by omega)).1 hh))] at h
  refine brF (by (first | omega | ((try simp (disch := omega) only [L_le, le_L, L_lt, lt_L, eq_L, L_eq, I_le, I_lt, I_eq, I_ni, add_L, L_add, I_add, mul_L, L_mul, I_mul, sub_L, L_sub, I_sub, div_L, rem_L]); done) | ((try simp (disch := omega) only [L_le, le_L, L_lt, lt_L, eq_L, L_eq, I_le, I_lt, I_eq, I_ni, add_L, L_add, I_add, mul_L, L_mul, I_mul, sub_L, L_sub, I_sub, div_L, rem_L]); omega))) ?_
  rw [I_ni (show j < 2147483648 by omega)] at h
  (try simp (disch := omega) only [L_le, le_L, L_lt, lt_L, eq_L, L_eq, I_le, I_lt, I_eq, I_ni, add_L, L_add, I_add, mul_L, L_mul, I_mul, sub_L, L_sub, I_sub, div_L, rem_L])
  refine ⟨tix_I rfl (by show _ < 3816; omega) (by decide), ?_⟩
  rw [g.kn k hk]
  by_cases hp : j - 1 ≤ A.g.kn k
  · rw [if_pos hp] at h
    refine brF (by (first | omega | ((try simp (disch := omega) only [L_le, le_L, L_lt, lt_L, eq_L, L_eq, I_le, I_lt, I_eq, I_ni, add_L, L_add, I_add, mul_L, L_mul, I_mul, sub_L, L_sub, I_sub, div_L, rem_L]); done) | ((try simp (disch := omega) only [L_le, le_L, L_lt, lt_L, eq_L, L_eq, I_le, I_lt, I_eq, I_ni, add_L, L_add, I_add, mul_L, L_mul, I_mul, sub_L, L_sub, I_sub, div_L, rem_L]); omega))) ⟨tix_I rfl (by show _ < 3816; omega) (by decide), ?_⟩
    have e := g.kid k (j - 2) hk (by omega)
    rw [show 44 + 3 * k + j - 2 = 44 + 3 * k + (j - 2) by omega, e, show j - 2 + 1 = j - 1 by omega]
    exact pt_gives R h
  · rw [if_neg hp] at h
    exact brT (by (first | omega | ((try simp (disch := omega) only [L_le, le_L, L_lt, lt_L, eq_L, L_eq, I_le, I_lt, I_eq, I_ni, add_L, L_add, I_add, mul_L, L_mul, I_mul, sub_L, L_sub, I_sub, div_L, rem_L]); done) | ((try simp (disch := omega) only [L_le, le_L, L_lt, lt_L, eq_L, L_eq, I_le, I_lt, I_eq, I_ni, add_L, L_add, I_add, mul_L, L_mul, I_mul, sub_L, L_sub, I_sub, div_L, rem_L]); omega))) (pt_refuse R h)

noncomputable def qInduced (X : AX) (x y z : Int32) : An :=
  cif (okA X x y ∧ okA X x z) (match X.gr with
    | none => (0, 0)
    | some q => (if bt (q.2 (8 * ni x + ni y)) (ni z) then 1 else 0, 0)) (-1, 4)
theorem b10 {b : Bool} {m : Int32} (h : m = if (if b = true then (1 : Int32) else 0) = 0 then 0 else 1) : m = if b = true then 1 else 0 := by cases b <;> exact h
theorem pt_induced (R : TwRep T X) {Q : Int32 → TS → Prop} (h : ∀ U, TwRep U (X.ws (qInduced X x y z).2) → Q (qInduced X x y z).1 U) : wp_X1_induced x y z T Q := by
  unfold wp_X1_induced
  refine pt_isAttributeR R ?_
  unfold qInduced at h
  by_cases h1 : okA X x y
  rotate_left
  · rw [iP_neg h1]
    rw [cif_neg (fun hh => h1 hh.1)] at h
    exact brT rfl (pt_refuse R h)
  rw [iP_pos h1]
  refine brF (by decide) ?_
  refine pt_isAttributeR R ?_
  by_cases h2 : okA X x z
  rotate_left
  · rw [iP_neg h2]
    rw [cif_neg (fun hh => h2 hh.2)] at h
    exact brT rfl (pt_refuse R h)
  rw [iP_pos h2]
  rw [cif_pos ⟨h1, h2⟩] at h
  refine brF (by decide) ?_
  obtain ⟨A, ind, hg, ⟨k, hk, e⟩, hy⟩ := h1
  obtain ⟨A', ind', hg', _, hz⟩ := h2
  rw [hg] at hg'
  have e1 := (Prod.mk.inj (Option.some.inj hg')).1
  subst e1
  obtain ⟨W, RL, hI, s, g, h5⟩ := R.gg hg
  subst e
  rw [I_ni (by have := W.nS; omega)] at hy hz h
  obtain ⟨a, ha, e⟩ := hy
  subst e
  obtain ⟨b, hb, e⟩ := hz
  subst e
  have hS := W.nS
  have hc := W.cnt8 hk
  rw [hg] at h
  dsimp only at h
  rw [I_ni (by omega), I_ni (by omega)] at h
  (try simp (disch := omega) only [L_le, le_L, L_lt, lt_L, eq_L, L_eq, I_le, I_lt, I_eq, I_ni, add_L, L_add, I_add, mul_L, L_mul, I_mul, sub_L, L_sub, I_sub, div_L, rem_L])
  refine ⟨tix_I rfl (by show _ < 64; omega) (by decide), ?_⟩
  rw [h5]
  refine pt_has (by omega) ?_
  intro m hm
  rw [b10 hm]
  exact pt_gives R h

noncomputable def qVisit (X : AX) (x y : Int32) : An :=
  cif (okA X x y) (match X.gr with
    | none => (0, 0)
    | some q => if q.1.g.self q.2 (ni x) then (-1, 7) else (I (q.1.g.vo q.2 (ni x) (ni y)), 0)) (-1, 4)
theorem pt_visit (R : TwRep T X) {Q : Int32 → TS → Prop} (h : ∀ U, TwRep U (X.ws (qVisit X x y).2) → Q (qVisit X x y).1 U) : wp_X1_visit x y T Q := by
  unfold wp_X1_visit
  refine pt_isAttributeR R ?_
  unfold qVisit at h
  by_cases h1 : okA X x y
  rotate_left
  · rw [iP_neg h1]
    rw [cif_neg h1] at h
    exact brT rfl (pt_refuse R h)
  rw [iP_pos h1]
  rw [cif_pos h1] at h
  refine brF (by decide) ?_
  obtain ⟨A, ind, hg, ⟨k, hk, e⟩, hy⟩ := h1
  obtain ⟨W, RL, hI, s, g, h5⟩ := R.gg hg
  subst e
  rw [I_ni (by have := W.nS; omega)] at hy
  obtain ⟨a, ha, e⟩ := hy
  subst e
  have hS := W.nS
  have hc := W.cnt8 hk
  rw [hg] at h
  dsimp only at h
  rw [I_ni (show k < 2147483648 by omega), I_ni (show a < 2147483648 by omega)] at h
  refine pt_isSelf W g rfl hk ?_
  rw [h5]
  by_cases hself : A.g.self ind k = true
  · rw [if_pos hself] at h ⊢
    exact brF (by decide) (pt_refuse R h)
  · rw [if_neg hself] at h ⊢
    refine brT rfl ?_
    have hself' : A.g.self ind k = false := by simpa using hself
    refine pt_laysVisits W g rfl hk (by rw [h5]; exact hI.acy W hk hself') ?_
    intro U F V _ _ _
    rw [h5] at V
    (try simp (disch := omega) only [L_le, le_L, L_lt, lt_L, eq_L, L_eq, I_le, I_lt, I_eq, I_ni, add_L, L_add, I_add, mul_L, L_mul, I_mul, sub_L, L_sub, I_sub, div_L, rem_L])
    refine ⟨tix_I rfl (by show _ < 64; omega) (by decide), ?_⟩
    rw [V.2 a ha]
    exact pt_gives (R.keep F (by decide) (by decide)) h

noncomputable def qOrdered (X : AX) (x : Int32) : An :=
  cif (inR x 2) (match X.gr with
    | none => (-1, 2)
    | some q => match q.1.g.blkP q.2 with
      | none => if x = 0 then (1, 0) else (-1, 7)
      | some p => if x = 0 then (0, 0) else (I p, 0)) (-1, 1)
theorem blkP_lt {G : Gv} {ind : Nat → Int32} {p : Nat} (h : G.blkP ind = some p) : p < G.nP := (fstN_some.1 h).1
theorem pt_ordered (R : TwRep T X) {Q : Int32 → TS → Prop} (h : ∀ U, TwRep U (X.ws (qOrdered X x).2) → Q (qOrdered X x).1 U) : wp_X1_ordered x T Q := by
  unfold wp_X1_ordered
  refine pt_isFromR (m := 2) (by decide) (by decide) ?_
  unfold qOrdered at h
  by_cases hr : inR x 2
  rotate_left
  · rw [iP_neg hr]
    rw [cif_neg hr] at h
    exact brT rfl (pt_refuse R h)
  rw [iP_pos hr]
  rw [cif_pos hr] at h
  refine brF (by decide) ?_
  cases hg : X.gr with
  | none =>
    rw [hg] at h
    exact brT (R.g0 hg) (pt_refuse R h)
  | some q =>
    obtain ⟨A, ind⟩ := q
    rw [hg] at h
    dsimp only at h
    obtain ⟨W, RL, hI, s, g, h5⟩ := R.gg hg
    have hP := W.nP
    refine brF (by rw [s]; decide) ?_
    refine pt_block W g rfl h5 hI ?_
    intro U F
    have RU := R.keep F (by decide) (by decide)
    cases hb : A.g.blkP ind with
    | none =>
      rw [hb] at h
      dsimp only at h
      by_cases h0 : x = 0
      · rw [if_pos h0] at h
        refine brT h0 ?_
        intro m hm
        rw [if_pos (show oI none = -1 from rfl)] at hm
        rw [hm]
        exact pt_gives RU h
      · rw [if_neg h0] at h
        exact brF h0 (brT rfl (pt_refuse RU h))
    | some p =>
      rw [hb] at h
      dsimp only at h
      have hp := blkP_lt hb
      by_cases h0 : x = 0
      · rw [if_pos h0] at h
        refine brT h0 ?_
        intro m hm
        rw [if_neg (show ¬ oI (some p) = -1 from I_neg1_ne (by omega))] at hm
        rw [hm]
        exact pt_gives RU h
      · rw [if_neg h0] at h
        exact brF h0 (brF (I_neg1_ne (by omega)) (pt_gives RU h))

theorem noBlk {G : Gv} {ind : Nat → Int32} (W : G.WF) (h : G.blkP ind = none) {p : Nat} (hp : p < G.nP) {k : Nat} (hk : k ≤ G.kn p) : G.self ind (G.sy p k) = false := by
  have := fstN_none.1 h p hp
  simp only [Bool.or_eq_false_iff] at this
  refine Gv.noSelf W hp ?_ hk
  cases hf : fself (clo (G.rI ind p)) with
  | none => rfl
  | some o => rw [hf] at this; exact absurd this.1 (by simp)

noncomputable def qPlan (X : AX) (x y : Int32) : An :=
  cif (-1 ≤ y) (cif (okP X x) (match X.gr with
    | none => (0, 0)
    | some q => match q.1.g.blkP q.2 with
      | some _ => (-1, 5)
      | none => if y = -1 then (I (q.1.g.plL q.2 (ni x)).length, 0) else if ni y < (q.1.g.plL q.2 (ni x)).length then ((q.1.g.plL q.2 (ni x)).getD (ni y) 0, 0) else (-1, 7)) (-1, 4)) (-1, 1)
theorem pt_plan (R : TwRep T X) {Q : Int32 → TS → Prop} (h : ∀ U, TwRep U (X.ws (qPlan X x y).2) → Q (qPlan X x y).1 U) : wp_X1_plan x y T Q := by
  unfold wp_X1_plan
  unfold qPlan at h
  by_cases h1 : -1 ≤ y
  rotate_left
  · rw [cif_neg h1] at h
    exact brF h1 (pt_refuse R h)
  rw [cif_pos h1] at h
  refine brT h1 ?_
  refine pt_isProductionR R ?_
  by_cases hs : okP X x
  rotate_left
  · rw [iP_neg hs]
    rw [cif_neg hs] at h
    exact brT rfl (pt_refuse R h)
  rw [iP_pos hs]
  rw [cif_pos hs] at h
  refine brF (by decide) ?_
  obtain ⟨A, ind, hg, ⟨k, hk, e⟩⟩ := hs
  subst e
  rw [hg] at h
  dsimp only at h
  obtain ⟨W, RL, hI, s, g, h5⟩ := R.gg hg
  have hP := W.nP
  rw [I_ni (show k < 2147483648 by omega)] at h
  refine pt_block W g rfl h5 hI ?_
  intro U F
  have RU := R.keep F (by decide) (by decide)
  cases hb : A.g.blkP ind with
  | some p =>
    rw [hb] at h
    have hp := blkP_lt hb
    exact brF (I_neg1_ne (by omega)) (pt_refuse RU h)
  | none =>
    rw [hb] at h
    dsimp only at h
    refine brT rfl ?_
    obtain ⟨_, _, _, sU, gU, h5U⟩ := RU.gg hg
    refine pt_laysPlan W gU rfl sU h5U hI hk (fun j hj => noBlk W hb hk hj) ?_
    intro V q FV hq hT hl
    have RV := RU.keep FV (by decide) (by decide)
    rw [Gv.plL_eq hq] at h
    rw [hT.1]
    by_cases hy : y = -1
    · rw [if_pos hy] at h
      exact brT hy (pt_gives RV h)
    rw [if_neg hy] at h
    refine brF hy ?_
    have hy0 : 0 ≤ y := by
      have h3 := Int32.le_iff_toInt_le.1 h1
      have e2 : (-1 : Int32).toInt = -1 := by decide
      have h4 : y.toInt ≠ -1 := fun hh => hy (Int32.toInt_inj.1 (by rw [hh, e2]))
      apply Int32.le_iff_toInt_le.2
      have e3 : (0 : Int32).toInt = 0 := by decide
      omega
    have ey := nnx hy0
    have hyl := ni_lt y
    rw [ey] at h ⊢
    rw [I_ni hyl] at h
    by_cases hl2 : ni y < q.2.2.2.length
    · rw [if_pos hl2] at h
      refine brF (fun hh => by have := (I_le (by omega) hyl).1 hh; omega) ⟨tix_I rfl (by show _ < 100; omega) (by decide), ?_⟩
      rw [I_ni hyl, hT.2 _ hl2]
      exact pt_gives RV h
    · rw [if_neg hl2] at h
      exact brT ((I_le (by omega) hyl).2 (by omega)) (pt_refuse RV h)

noncomputable def qCircle (X : AX) (x : Int32) : An :=
  cif (-1 ≤ x) (match X.gr with
    | none => (-1, 2)
    | some q => match q.1.g.cirP q.2 with
      | none => (-1, 7)
      | some p => if x = -1 then (I p, 0) else match fself (clo (q.1.g.rI q.2 p)) with
        | none => (0, 0)
        | some g => if ni x < rlen (q.1.g.rI q.2 p) g then (I (ring (q.1.g.rI q.2 p) g (rlen (q.1.g.rI q.2 p) g) (ni x)), 0) else (-1, 7)) (-1, 1)
theorem ge0_of (h1 : -1 ≤ x) (hx : ¬ x = -1) : 0 ≤ x := by
  have h3 := Int32.le_iff_toInt_le.1 h1
  have e2 : (-1 : Int32).toInt = -1 := by decide
  have h4 : x.toInt ≠ -1 := fun hh => hx (Int32.toInt_inj.1 (by rw [hh, e2]))
  apply Int32.le_iff_toInt_le.2
  have e3 : (0 : Int32).toInt = 0 := by decide
  omega
theorem pt_circle (R : TwRep T X) {Q : Int32 → TS → Prop} (h : ∀ U, TwRep U (X.ws (qCircle X x).2) → Q (qCircle X x).1 U) : wp_X1_circle x T Q := by
  unfold wp_X1_circle
  unfold qCircle at h
  by_cases h1 : -1 ≤ x
  rotate_left
  · rw [cif_neg h1] at h
    exact brF h1 (pt_refuse R h)
  rw [cif_pos h1] at h
  refine brT h1 ?_
  cases hg : X.gr with
  | none =>
    rw [hg] at h
    exact brT (R.g0 hg) (pt_refuse R h)
  | some q =>
    obtain ⟨A, ind⟩ := q
    rw [hg] at h
    dsimp only at h
    obtain ⟨W, RL, hI, s, g, h5⟩ := R.gg hg
    have hP := W.nP
    refine brF (by rw [s]; decide) ?_
    refine pt_findsCircle W g rfl h5 ?_
    intro U F hU
    have RU := R.keep F (by decide) (by decide)
    cases hc : A.g.cirP ind with
    | none =>
      rw [hc] at h
      exact brT rfl (pt_refuse RU h)
    | some p =>
      rw [hc] at h
      dsimp only at h
      have hp : p < A.g.nP := (fstN_some.1 hc).1
      refine brF (I_neg1_ne (by omega)) ?_
      by_cases hx : x = -1
      · rw [if_pos hx] at h
        exact brT hx (pt_gives RU h)
      rw [if_neg hx] at h
      refine brF hx ?_
      have hsm : (fself (clo (A.g.rI ind p))).isSome = true := (fstN_some.1 hc).2.1
      cases hfs : fself (clo (A.g.rI ind p)) with
      | none => rw [hfs] at hsm; exact absurd hsm (by simp)
      | some o =>
        rw [hfs] at h
        dsimp only at h
        obtain ⟨u1, u2, u3⟩ := hU p o hc hfs
        have ex := nnx (ge0_of h1 hx)
        have hxl := ni_lt x
        rw [ex, I_ni hxl] at h
        rw [ex, u1]
        by_cases hl : ni x < rlen (A.g.rI ind p) o
        · rw [if_pos hl] at h
          refine brF (fun hh => by have := (I_le (by omega) hxl).1 hh; omega) ⟨tix_I rfl (by show _ < 32; omega) (by decide), ?_⟩
          rw [I_ni hxl, u3 _ hl]
          exact pt_gives RU h
        · rw [if_neg hl] at h
          exact brT ((I_le (by omega) hxl).2 (by omega)) (pt_refuse RU h)

noncomputable def qHangs (X : AX) (x y z u : Int32) : An :=
  cif (inR u 3) (cif (okO X x y ∧ okO X x z) (match X.gr with
    | none => (0, 0)
    | some q => if u = 2 ∧ q.1.g.selfIn q.2 (ni x) = true then (-1, 7)
      else (if bt ((if u = 0 then q.1.g.ask (ni x) else if u = 1 then clo (q.1.g.rI q.2 (ni x)) else clo (q.1.g.rV q.2 (ni x))) (ni y)) (ni z) then 1 else 0, 0)) (-1, 4)) (-1, 1)
theorem pt_hangs (R : TwRep T X) {Q : Int32 → TS → Prop} (h : ∀ U, TwRep U (X.ws (qHangs X x y z u).2) → Q (qHangs X x y z u).1 U) : wp_X1_hangs x y z u T Q := by
  unfold wp_X1_hangs
  refine pt_isFromR (m := 3) (by decide) (by decide) ?_
  unfold qHangs at h
  by_cases hr : inR u 3
  rotate_left
  · rw [iP_neg hr]
    rw [cif_neg hr] at h
    exact brT rfl (pt_refuse R h)
  rw [iP_pos hr]
  rw [cif_pos hr] at h
  refine brF (by decide) ?_
  refine pt_isOccR R ?_
  by_cases h1 : okO X x y
  rotate_left
  · rw [iP_neg h1]
    rw [cif_neg (fun hh => h1 hh.1)] at h
    exact brT rfl (pt_refuse R h)
  rw [iP_pos h1]
  refine brF (by decide) ?_
  refine pt_isOccR R ?_
  by_cases h2 : okO X x z
  rotate_left
  · rw [iP_neg h2]
    rw [cif_neg (fun hh => h2 hh.2)] at h
    exact brT rfl (pt_refuse R h)
  rw [iP_pos h2]
  rw [cif_pos ⟨h1, h2⟩] at h
  refine brF (by decide) ?_
  obtain ⟨A, ind, hg, ⟨k, hk, e⟩, hy0, hy⟩ := h1
  obtain ⟨A', ind', hg', _, hz0, hz⟩ := h2
  rw [hg] at hg'
  have e1 := (Prod.mk.inj (Option.some.inj hg')).1
  subst e1
  obtain ⟨W, RL, hI, s, g, h5⟩ := R.gg hg
  have hP := W.nP
  subst e
  rw [I_ni (by omega)] at hy hz
  rw [hg] at h
  dsimp only at h
  rw [I_ni (show k < 2147483648 by omega)] at h
  have ey := nnx hy0
  have ez := nnx hz0
  obtain ⟨a, ea⟩ : ∃ a, ni y = a := ⟨_, rfl⟩
  obtain ⟨b, eb⟩ : ∃ b, ni z = b := ⟨_, rfl⟩
  rw [ea] at ey hy h
  rw [eb] at ez hz h
  have ha := hy.1
  have hb := hz.1
  rw [ey, ez]
  -- the end
  have fin : ∀ (U : TS) (r : Nat → Int32), TwRep U X → (∀ o, o < 32 → U.a 6 o = r o) → (∀ V, TwRep V (X.ws 0) → Q (if bt (r a) b then 1 else 0) V) → tix 6 40 (I a) ∧ wp_X1_has (U.a 6 (ni (I a))) (I b) U fun r68 T67 => ∀ m69 : Int32, m69 = (if r68 = 0 then 0 else 1) → wp_X1_gives m69 T67 fun r72 T71 => Q r72 T71 := by
    intro U r RU hU hQ
    refine ⟨tix_I rfl (by show _ < 32; omega) (by decide), ?_⟩
    rw [I_ni (by omega), hU a ha]
    refine pt_has hb ?_
    intro m hm
    rw [b10 hm]
    exact pt_gives RU hQ
  have F6 : ∀ r, TwRep (T.wa 6 r) X := fun r => R.keep (L := [6]) (M := []) ((Tch.refl T).wa (by decide) r) (by decide) (by decide)
  obtain ⟨j, hj, e⟩ := hr
  subst e
  rcases (show j = 0 ∨ j = 1 ∨ j = 2 by omega) with e | e | e
  · subst e
    rw [if_neg (show ¬ (I 0 = 2 ∧ A.g.selfIn ind k = true) from fun hh => absurd hh.1 (by decide)), if_pos (show I 0 = 0 from rfl)] at h
    refine brF (by decide) (brT rfl ?_)
    refine pt_laysRules W g rfl hk ?_
    refine fin _ (A.g.ask k) (F6 _) (fun o ho => by rw [wa_a, if_pos rfl]; simp [mixN, ho]) ?_
    intro V RV
    exact h V RV
  · subst e
    rw [if_neg (show ¬ (I 1 = 2 ∧ A.g.selfIn ind k = true) from fun hh => absurd hh.1 (by decide)), if_neg (show ¬ I 1 = 0 by decide), if_pos (show I 1 = 1 from rfl)] at h
    refine brF (by decide) (brF (by decide) (brT rfl ?_))
    refine pt_laysClosed W g rfl hk ?_
    intro r hr
    rw [h5] at hr
    refine fin _ (clo (A.g.rI ind k)) (F6 _) (fun o ho => by rw [wa_a, if_pos rfl]; exact hr o ho) ?_
    intro V RV
    exact h V RV
  · subst e
    refine brT rfl ?_
    refine pt_isSelfIn W g rfl hk ?_
    rw [h5]
    by_cases hself : A.g.selfIn ind k = true
    · rw [if_pos hself]
      rw [if_pos (show I 2 = 2 ∧ A.g.selfIn ind k = true from ⟨rfl, hself⟩)] at h
      exact brF (by decide) (pt_refuse R h)
    · rw [if_neg hself]
      rw [if_neg (show ¬ (I 2 = 2 ∧ A.g.selfIn ind k = true) from fun hh => hself hh.2), if_neg (show ¬ I 2 = 0 by decide), if_neg (show ¬ I 2 = 1 by decide)] at h
      refine brT rfl (brF (by decide) (brF (by decide) ?_))
      have hns : ∀ j, j ≤ A.g.kn k → A.g.self ind (A.g.sy k j) = false := fun j hj => by
        have h9 : A.g.selfIn ind k = false := by simpa using hself
        unfold Gv.selfIn at h9
        rw [Option.isSome_eq_false_iff, Option.isNone_iff_eq_none, fstN_none] at h9
        exact h9 j (by omega)
      refine pt_laysOrdered W g rfl h5 hI hk hns ?_
      intro U F hr
      refine fin U (clo (A.g.rV ind k)) (R.keep F (by decide) (by decide)) hr ?_
      intro V RV
      exact h V RV
end
