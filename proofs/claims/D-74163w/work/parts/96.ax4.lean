/-! plain: ax4 -/
set_option maxRecDepth 100000
section
variable {T : TS} {X : AX} {x y z : Int32} {G : Gv} {V : Tv} {gv : Nat → Int32}

theorem pt_hasTree (R : TwRep T X) {Q : Int32 → TS → Prop} (h : Q (iP (X.tr ≠ none)) T) : wp_X1_hasTree T Q := by
  intro m hm
  cases ht : X.tr with
  | none =>
    rw [R.t0 ht, if_pos (by decide)] at hm
    rw [iP_neg (fun hh => hh ht)] at h
    rw [hm]; exact ⟨.inl rfl, h⟩
  | some r =>
    obtain ⟨V, sz, gv⟩ := r
    obtain ⟨A, ind, hg, K, IS, q1, q2, q3, q4, q5⟩ := R.tt1 ht
    rw [q3, if_neg (fun hh => by have h9 : V.n ≤ 0 := (le_L 0 (by decide) (by omega)).1 hh; omega)] at hm
    rw [iP_pos (fun hh => by rw [ht] at hh; exact absurd hh (by simp))] at h
    rw [hm]; exact ⟨.inr rfl, h⟩
theorem pt_isNodeR (X : V.WF G) (J : TwI T G V gv) {Q : Int32 → TS → Prop} (h : Q (iP (inR x V.n)) T) : wp_X1_isNode x T Q := by
  have h40 := X.n40
  unfold wp_X1_isNode
  rw [J.n]
  refine pt_isFromR (by omega) rfl ?_
  by_cases hr : inR x V.n
  · rw [iP_pos hr] at h ⊢; exact ⟨.inr rfl, h⟩
  · rw [iP_neg hr] at h ⊢; exact ⟨.inl rfl, h⟩
theorem pt_isInstR (W : G.WF) (X : V.WF G) (J : TwI T G V gv) {Q : Int32 → TS → Prop} (h : Q (iP (inR x V.n ∧ inR y (G.cnt (V.sm G (ni x))))) T) : wp_X1_isInstance x y T Q := by
  have h40 := X.n40
  unfold wp_X1_isInstance
  refine pt_isNodeR X J ?_
  by_cases hx : inR x V.n
  rotate_left
  · rw [iP_neg hx]
    rw [iP_neg (fun hh => hx hh.1)] at h
    exact brT rfl h
  rw [iP_pos hx]
  refine brF (by decide) ?_
  obtain ⟨k, hk, e⟩ := hx
  subst e
  rw [I_ni (by omega)] at h
  refine pt_symbolOf W X J hk ?_
  have hs := X.smS W hk
  have hc := W.cnt8 hs
  refine pt_attributes W J.A rfl hs ?_
  refine pt_isFromR (by omega) rfl ?_
  intro m hm
  by_cases hy : inR y (G.cnt (V.sm G k))
  · rw [iP_pos hy, if_neg (by decide)] at hm
    rw [iP_pos ⟨⟨k, hk, rfl⟩, hy⟩] at h
    rw [hm]; exact ⟨.inr rfl, h⟩
  · rw [iP_neg hy, if_pos rfl] at hm
    rw [iP_neg (fun hh => hy hh.2)] at h
    rw [hm]; exact ⟨.inl rfl, h⟩

/-- an instance of the tree that there is. -/
def okI (X : AX) (x y : Int32) : Prop := ∃ V sz gv A ind, X.tr = some (V, sz, gv) ∧ X.gr = some (A, ind) ∧ inR x V.n ∧ inR y (A.g.cnt (V.sm A.g (ni x)))
def okN (X : AX) (x : Int32) : Prop := ∃ V sz gv, X.tr = some (V, sz, gv) ∧ inR x V.n
theorem okI_iff {V : Tv} {sz : Nat → Nat} {gv : Nat → Int32} {A : PG} {ind : Nat → Int32} (ht : X.tr = some (V, sz, gv)) (hg : X.gr = some (A, ind)) : okI X x y ↔ inR x V.n ∧ inR y (A.g.cnt (V.sm A.g (ni x))) := by
  constructor
  · rintro ⟨V', sz', gv', A', ind', h1, h2, h3⟩
    rw [ht] at h1
    rw [hg] at h2
    have e1 := (Prod.mk.inj (Option.some.inj h1)).1
    have e2 := (Prod.mk.inj (Option.some.inj h2)).1
    subst e1
    subst e2
    exact h3
  · intro h; exact ⟨V, sz, gv, A, ind, ht, hg, h⟩
/-- where an instance stands. -/
theorem inst_at (W : G.WF) (X : V.WF G) (h : inR x V.n ∧ inR y (G.cnt (V.sm G (ni x)))) : ∃ k a, k < V.n ∧ a < 8 ∧ x = I k ∧ y = I a ∧ ni x = k ∧ ni y = a ∧ V.is G (8 * k + a) := by
  have h40 := X.n40
  obtain ⟨⟨k, hk, rfl⟩, hy⟩ := h
  rw [I_ni (by omega)] at hy
  obtain ⟨a, ha, rfl⟩ := hy
  have hc := W.cnt8 (X.smS W hk)
  refine ⟨k, a, hk, by omega, rfl, rfl, I_ni (by omega), I_ni (by omega), ?_⟩
  exact ⟨by omega, by rw [show (8 * k + a) / 8 = k by omega, show (8 * k + a) % 8 = a by omega]; exact ha⟩

noncomputable def qValue (X : AX) (x y : Int32) : An := cif (X.tr ≠ none) (cif (okI X x y) (X.S.val (8 * ni x + ni y), 0) (-1, 4)) (-1, 3)
theorem pt_value (R : TwRep T X) {Q : Int32 → TS → Prop} (h : ∀ U, TwRep U (X.ws (qValue X x y).2) → Q (qValue X x y).1 U) : wp_X1_value x y T Q := by
  unfold wp_X1_value
  refine pt_hasTree R ?_
  unfold qValue at h
  cases ht : X.tr with
  | none =>
    rw [iP_neg (fun hh => hh rfl)]
    rw [cif_neg (fun hh => hh ht)] at h
    exact brT rfl (pt_refuse R h)
  | some r =>
    obtain ⟨V, sz, gv⟩ := r
    rw [iP_pos (by simp)]
    rw [cif_pos (fun hh => by rw [ht] at hh; exact absurd hh (by simp))] at h
    obtain ⟨A, ind, hg, K, IS, q1, ⟨O, q2⟩, q3, q4, q5⟩ := R.tt1 ht
    obtain ⟨W, _⟩ := R.ok.g A ind hg
    refine brF (by decide) ?_
    refine pt_isInstR W K.WF q1.J ?_
    by_cases hi : inR x V.n ∧ inR y (A.g.cnt (V.sm A.g (ni x)))
    · rw [iP_pos hi]
      rw [cif_pos ((okI_iff ht hg).2 hi)] at h
      refine brF (by decide) ?_
      obtain ⟨k, a, hk, ha, e1, e2, e3, e4, his⟩ := inst_at W K.WF hi
      rw [e3, e4] at h
      rw [e1, e2]
      (try simp (disch := omega) only [L_le, le_L, L_lt, lt_L, eq_L, L_eq, I_le, I_lt, I_eq, I_ni, add_L, L_add, I_add, mul_L, L_mul, I_mul, sub_L, L_sub, I_sub, div_L, rem_L])
      refine ⟨tix_I rfl (by show _ < 320; omega) (by decide), ?_⟩
      rw [q2.v _ ((IS.vv _).2 his)]
      exact pt_gives R h
    · rw [iP_neg hi]
      rw [cif_neg (fun hh => hi ((okI_iff ht hg).1 hh))] at h
      exact brT rfl (pt_refuse R h)

noncomputable def qKnot (X : AX) (x y z : Int32) : An :=
  cif (inR z 5) (cif (X.tr ≠ none) (cif (okI X x y) (cif (Trc X.S.E (8 * ni x + ni y) (8 * ni x + ni y))
    (if z = 0 then I (cnP (fun j => j ∈ cls X.S.E X.S.M (8 * ni x + ni y)) X.S.M) else if z = 1 then I (X.S.tn (8 * ni x + ni y)) else if z = 2 then (if X.S.us (8 * ni x + ni y) then 1 else 0)
      else if z = 3 then I (X.S.hd (8 * ni x + ni y) / 8) else I (X.S.hd (8 * ni x + ni y) % 8), 0) (-1, 7)) (-1, 4)) (-1, 3)) (-1, 1)
theorem pt_knot (R : TwRep T X) {Q : Int32 → TS → Prop} (h : ∀ U, TwRep U (X.ws (qKnot X x y z).2) → Q (qKnot X x y z).1 U) : wp_X1_knot x y z T Q := by
  unfold wp_X1_knot
  refine pt_isFromR (m := 5) (by decide) (by decide) ?_
  unfold qKnot at h
  by_cases hr : inR z 5
  rotate_left
  · rw [iP_neg hr]
    rw [cif_neg hr] at h
    exact brT rfl (pt_refuse R h)
  rw [iP_pos hr]
  rw [cif_pos hr] at h
  refine brF (by decide) ?_
  refine pt_hasTree R ?_
  cases ht : X.tr with
  | none =>
    rw [iP_neg (fun hh => hh rfl)]
    rw [cif_neg (fun hh => hh ht)] at h
    exact brT rfl (pt_refuse R h)
  | some r =>
  obtain ⟨V, sz, gv⟩ := r
  rw [iP_pos (by simp)]
  rw [cif_pos (fun hh => by rw [ht] at hh; exact absurd hh (by simp))] at h
  obtain ⟨A, ind, hg, K, IS, q1, ⟨O, q2⟩, q3, q4, q5⟩ := R.tt1 ht
  obtain ⟨W, _⟩ := R.ok.g A ind hg
  refine brF (by decide) ?_
  refine pt_isInstR W K.WF q1.J ?_
  by_cases hi : inR x V.n ∧ inR y (A.g.cnt (V.sm A.g (ni x)))
  rotate_left
  · rw [iP_neg hi]
    rw [cif_neg (fun hh => hi ((okI_iff ht hg).1 hh))] at h
    exact brT rfl (pt_refuse R h)
  rw [iP_pos hi]
  rw [cif_pos ((okI_iff ht hg).2 hi)] at h
  refine brF (by decide) ?_
  obtain ⟨k, a, hk, ha, e1, e2, e3, e4, his⟩ := inst_at W K.WF hi
  rw [e3, e4] at h
  rw [e1, e2]
  have hMM := IS.mm
  have hV : X.S.V (8 * k + a) := (IS.vv _).2 his
  generalize hii : 8 * k + a = i at *
  have hlt : i < 8 * V.n := by omega
  have ei : (8 * I k) + I a = I i := by rw [← hii]; (try simp (disch := omega) only [L_le, le_L, L_lt, lt_L, eq_L, L_eq, I_le, I_lt, I_eq, I_ni, add_L, L_add, I_add, mul_L, L_mul, I_mul, sub_L, L_sub, I_sub, div_L, rem_L])
  rw [ei]
  refine ⟨tix_I rfl (by show _ < 320; omega) (by decide), ?_⟩
  rw [I_ni (by omega)]
  by_cases htr : Trc X.S.E i i
  rotate_left
  · rw [(q1.K i (by omega)).2 (fun hh => htr hh.2)]
    rw [cif_neg htr] at h
    exact brT rfl (pt_refuse R h)
  have e29 := (q1.K i (by omega)).1 ⟨hV, htr⟩
  have hhd := X.S.hV _ (X.S.cls_V hV (X.S.hd_mem hV))
  rw [e29]
  rw [cif_pos htr] at h
  refine brF (I_neg1_ne (by omega)) ?_
  obtain ⟨j, hj, ez⟩ := hr
  refine tlp_cnt (8 * V.n) (fun m s U => U = T ∧ s = (I (cnP (fun j => j ∈ cls X.S.E X.S.M i) m), I m)) ⟨rfl, rfl⟩ ?_
  intro m s U KK hm hh hK
  obtain ⟨hU, hs⟩ := hh
  rw [hU, hs, q3]
  have hle := cnP_le (fun j => j ∈ cls X.S.E X.S.M i) m
  (try simp (disch := omega) only [L_le, le_L, L_lt, lt_L, eq_L, L_eq, I_le, I_lt, I_eq, I_ni, add_L, L_add, I_add, mul_L, L_mul, I_mul, sub_L, L_sub, I_sub, div_L, rem_L])
  by_cases em : m = 8 * V.n
  · refine brT (by omega) ?_
    rw [em, ← hMM]
    rw [ez] at h ⊢
    rcases (show j = 0 ∨ j = 1 ∨ j = 2 ∨ j = 3 ∨ j = 4 by omega) with e | e | e | e | e
    · subst e
      rw [if_pos (show I 0 = 0 from rfl)] at h
      exact brT rfl (pt_gives R h)
    · subst e
      rw [if_neg (show ¬ I 1 = 0 by decide), if_pos (show I 1 = 1 from rfl)] at h
      refine brF (by decide) (brT rfl ⟨tix_I rfl (by show _ < 320; omega) (by decide), ?_⟩)
      rw [(q2.t i hV htr).1]
      exact pt_gives R h
    · subst e
      rw [if_neg (show ¬ I 2 = 0 by decide), if_neg (show ¬ I 2 = 1 by decide), if_pos (show I 2 = 2 from rfl)] at h
      refine brF (by decide) (brF (by decide) (brT rfl ⟨tix_I rfl (by show _ < 320; omega) (by decide), ?_⟩))
      rw [(q2.t i hV htr).2]
      intro m9 hm9
      rw [b10 hm9]
      exact pt_gives R h
    · subst e
      rw [if_neg (show ¬ I 3 = 0 by decide), if_neg (show ¬ I 3 = 1 by decide), if_neg (show ¬ I 3 = 2 by decide), if_pos (show I 3 = 3 from rfl)] at h
      refine brF (by decide) (brF (by decide) (brF (by decide) (brT rfl ⟨tix_I rfl (by show _ < 320; omega) (by decide), ?_⟩)))
      rw [e29]
      (try simp (disch := omega) only [L_le, le_L, L_lt, lt_L, eq_L, L_eq, I_le, I_lt, I_eq, I_ni, add_L, L_add, I_add, mul_L, L_mul, I_mul, sub_L, L_sub, I_sub, div_L, rem_L])
      exact pt_gives R h
    · subst e
      rw [if_neg (show ¬ I 4 = 0 by decide), if_neg (show ¬ I 4 = 1 by decide), if_neg (show ¬ I 4 = 2 by decide), if_neg (show ¬ I 4 = 3 by decide)] at h
      refine brF (by decide) (brF (by decide) (brF (by decide) (brF (by decide) ⟨tix_I rfl (by show _ < 320; omega) (by decide), ?_⟩)))
      rw [e29]
      (try simp (disch := omega) only [L_le, le_L, L_lt, lt_L, eq_L, L_eq, I_le, I_lt, I_eq, I_ni, add_L, L_add, I_add, mul_L, L_mul, I_mul, sub_L, L_sub, I_sub, div_L, rem_L])
      exact pt_gives R h
  refine brF (by omega) ⟨tix_I rfl (by show _ < 320; omega) (by decide), ?_⟩
  rw [q1.B.th m (by omega)]
  by_cases hVm : X.S.V m
  rotate_left
  · rw [iP_neg (fun hh => hVm ((IS.vv m).2 hh))]
    refine brT rfl (hK _ _ (by omega) ⟨rfl, ?_⟩)
    rw [cnP_neg (P := fun j => j ∈ cls X.S.E X.S.M i) (fun hh => hVm (X.S.cls_V hV hh))]
    try rfl
  rw [iP_pos ((IS.vv m).1 hVm)]
  refine brF (by decide) ⟨tix_I rfl (by show _ < 320; omega) (by decide), tix_I rfl (by show _ < 320; omega) (by decide), ?_⟩
  rw [e29]
  intro m9 hm9
  have hq := q1.K.eq (by omega) hV htr (show m < 320 by omega)
  by_cases hc : m ∈ cls X.S.E X.S.M i
  · rw [if_pos (hq.2 hc)] at hm9
    rw [hm9]
    (try simp (disch := omega) only [L_le, le_L, L_lt, lt_L, eq_L, L_eq, I_le, I_lt, I_eq, I_ni, add_L, L_add, I_add, mul_L, L_mul, I_mul, sub_L, L_sub, I_sub, div_L, rem_L])
    refine hK _ _ (by omega) ⟨rfl, ?_⟩
    rw [cnP_pos (P := fun j => j ∈ cls X.S.E X.S.M i) hc]
  · rw [if_neg (fun hh => hc (hq.1 hh))] at hm9
    rw [hm9]
    refine hK _ _ (by omega) ⟨rfl, ?_⟩
    rw [cnP_neg (P := fun j => j ∈ cls X.S.E X.S.M i) hc]
    try (try simp (disch := omega) only [L_le, le_L, L_lt, lt_L, eq_L, L_eq, I_le, I_lt, I_eq, I_ni, add_L, L_add, I_add, mul_L, L_mul, I_mul, sub_L, L_sub, I_sub, div_L, rem_L])
    try rfl

noncomputable def qSpan (X : AX) (x y z : Int32) : An :=
  cif (inR z 2) (cif (X.tr ≠ none) (cif (okI X x y) (if z = 0 then I (cnP (fun j => Rch X.S.E (8 * ni x + ni y) j) X.S.M) else I (cnP (fun j => Rch X.S.E j (8 * ni x + ni y)) X.S.M), 0) (-1, 4)) (-1, 3)) (-1, 1)
theorem cnP_rch {E : Nat → Nat → Prop} {i m : Nat} (hi : i < m) : cnP (fun j => Rch E i j) m = 1 + cnP (fun j => j ≠ i ∧ Trc E i j) m := by
  rw [Nat.add_comm, ← cnP_add hi (fun hh => hh.1 rfl)]
  refine cnP_congr (fun j _ => ?_)
  rw [Rch.iff]
  constructor
  · rintro (e | h)
    · exact .inr e.symm
    · by_cases e : j = i
      · exact .inr e
      · exact .inl ⟨e, h⟩
  · rintro (h | e)
    · exact .inr h.2
    · exact .inl e.symm
theorem cnP_rch' {E : Nat → Nat → Prop} {i m : Nat} (hi : i < m) : cnP (fun j => Rch E j i) m = 1 + cnP (fun j => j ≠ i ∧ Trc E j i) m := by
  rw [Nat.add_comm, ← cnP_add hi (fun hh => hh.1 rfl)]
  refine cnP_congr (fun j _ => ?_)
  rw [Rch.iff]
  constructor
  · rintro (e | h)
    · exact .inr e
    · by_cases e : j = i
      · exact .inr e
      · exact .inl ⟨e, h⟩
  · rintro (h | e)
    · exact .inr h.2
    · exact .inl e
theorem pt_span (R : TwRep T X) {Q : Int32 → TS → Prop} (h : ∀ U, TwRep U (X.ws (qSpan X x y z).2) → Q (qSpan X x y z).1 U) : wp_X1_span x y z T Q := by
  unfold wp_X1_span
  refine pt_isFromR (m := 2) (by decide) (by decide) ?_
  unfold qSpan at h
  by_cases hr : inR z 2
  rotate_left
  · rw [iP_neg hr]
    rw [cif_neg hr] at h
    exact brT rfl (pt_refuse R h)
  rw [iP_pos hr]
  rw [cif_pos hr] at h
  refine brF (by decide) ?_
  refine pt_hasTree R ?_
  cases ht : X.tr with
  | none =>
    rw [iP_neg (fun hh => hh rfl)]
    rw [cif_neg (fun hh => hh ht)] at h
    exact brT rfl (pt_refuse R h)
  | some r =>
  obtain ⟨V, sz, gv⟩ := r
  rw [iP_pos (by simp)]
  rw [cif_pos (fun hh => by rw [ht] at hh; exact absurd hh (by simp))] at h
  obtain ⟨A, ind, hg, K, IS, q1, ⟨O, q2⟩, q3, q4, q5⟩ := R.tt1 ht
  obtain ⟨W, _⟩ := R.ok.g A ind hg
  refine brF (by decide) ?_
  refine pt_isInstR W K.WF q1.J ?_
  by_cases hi : inR x V.n ∧ inR y (A.g.cnt (V.sm A.g (ni x)))
  rotate_left
  · rw [iP_neg hi]
    rw [cif_neg (fun hh => hi ((okI_iff ht hg).1 hh))] at h
    exact brT rfl (pt_refuse R h)
  rw [iP_pos hi]
  rw [cif_pos ((okI_iff ht hg).2 hi)] at h
  refine brF (by decide) ?_
  obtain ⟨k, a, hk, ha, e1, e2, e3, e4, his⟩ := inst_at W K.WF hi
  rw [e3, e4] at h
  rw [e1, e2]
  have hMM := IS.mm
  have hV : X.S.V (8 * k + a) := (IS.vv _).2 his
  generalize hii : 8 * k + a = i at *
  have hlt : i < 8 * V.n := by omega
  have ei : (8 * I k) + I a = I i := by rw [← hii]; (try simp (disch := omega) only [L_le, le_L, L_lt, lt_L, eq_L, L_eq, I_le, I_lt, I_eq, I_ni, add_L, L_add, I_add, mul_L, L_mul, I_mul, sub_L, L_sub, I_sub, div_L, rem_L])
  rw [ei]
  obtain ⟨j, hj, ez⟩ := hr
  obtain ⟨D, hD⟩ : ∃ D : Nat → Prop, ∀ m, D m ↔ (m ≠ i ∧ (if j = 0 then Trc X.S.E i m else Trc X.S.E m i)) := ⟨fun m => (m ≠ i ∧ (if j = 0 then Trc X.S.E i m else Trc X.S.E m i)), fun _ => Iff.rfl⟩
  have hDV : ∀ m, D m → X.S.V m := fun m hm => by
    have := (hD m).1 hm
    by_cases j0 : j = 0
    · rw [if_pos j0] at this
      exact X.S.rchV this.2.rch hV
    · rw [if_neg j0] at this
      obtain ⟨c, hc, _⟩ := this.2
      exact (X.S.hE _ _ hc).1
  have hfin : Q (I (1 + cnP D (8 * V.n))) = Q (if z = 0 then I (cnP (fun j => Rch X.S.E i j) X.S.M) else I (cnP (fun j => Rch X.S.E j i) X.S.M), (0 : Int32)).1 := by
    rw [ez, hMM, cnP_rch hlt, cnP_rch' hlt]
    by_cases j0 : j = 0
    · rw [if_pos (show I j = 0 by rw [j0]; rfl), cnP_congr (P := D) (Q := fun m => m ≠ i ∧ Trc X.S.E i m) (fun m _ => by rw [hD m, if_pos j0])]
    · rw [if_neg (fun hh => j0 ((eq_L 0 (by decide) (by omega)).1 hh)), cnP_congr (P := D) (Q := fun m => m ≠ i ∧ Trc X.S.E m i) (fun m _ => by rw [hD m, if_neg j0])]
  refine tlp_cnt (8 * V.n) (fun m s U => U = T ∧ s = (I (1 + cnP D m), I m)) ⟨rfl, rfl⟩ ?_
  intro m s U KK hm hh hK
  obtain ⟨hU, hs⟩ := hh
  rw [hU, hs, q3]
  have hle := cnP_le D m
  (try simp (disch := omega) only [L_le, le_L, L_lt, lt_L, eq_L, L_eq, I_le, I_lt, I_eq, I_ni, add_L, L_add, I_add, mul_L, L_mul, I_mul, sub_L, L_sub, I_sub, div_L, rem_L])
  by_cases em : m = 8 * V.n
  · refine brT (by omega) ?_
    rw [em]
    refine pt_gives R ?_
    intro U2 R2
    rw [show Q (I (1 + cnP D (8 * V.n))) U2 = _ from congrFun hfin U2]
    exact h U2 R2
  refine brF (by omega) ?_
  have skip : ¬ D m → KK (I (1 + cnP D m), I (m + 1)) T := fun hn => hK _ _ (by omega) ⟨rfl, by rw [cnP_neg hn]⟩
  by_cases emi : m = i
  · exact brT emi (skip (fun hh => ((hD m).1 hh).1 emi))
  refine brF emi ⟨tix_I rfl (by show _ < 320; omega) (by decide), ?_⟩
  rw [q1.B.th m (by omega)]
  by_cases hVm : X.S.V m
  rotate_left
  · rw [iP_neg (fun hh => hVm ((IS.vv m).2 hh))]
    exact brT rfl (skip (fun hh => hVm (hDV m hh)))
  rw [iP_pos ((IS.vv m).1 hVm)]
  refine brF (by decide) ?_
  have put : ∀ b : Bool, (b = true ↔ D m) → ∀ m9 : Int32, m9 = (if (if b = true then (1 : Int32) else 0) = 0 then 0 else 1) → KK (I (1 + cnP D m) + m9, I (m + 1)) T := fun b hb m9 hm9 => by
    rw [b10 hm9]
    cases b with
    | true =>
      rw [if_pos rfl]
      (try simp (disch := omega) only [L_le, le_L, L_lt, lt_L, eq_L, L_eq, I_le, I_lt, I_eq, I_ni, add_L, L_add, I_add, mul_L, L_mul, I_mul, sub_L, L_sub, I_sub, div_L, rem_L])
      refine hK _ _ (by omega) ⟨rfl, ?_⟩
      rw [cnP_pos (hb.1 rfl), Nat.add_assoc]
    | false =>
      rw [if_neg (by decide)]
      refine hK _ _ (by omega) ⟨rfl, ?_⟩
      rw [cnP_neg (fun hh => absurd (hb.2 hh) (by decide))]
      try (try simp (disch := omega) only [L_le, le_L, L_lt, lt_L, eq_L, L_eq, I_le, I_lt, I_eq, I_ni, add_L, L_add, I_add, mul_L, L_mul, I_mul, sub_L, L_sub, I_sub, div_L, rem_L])
      try rfl
  by_cases j0 : j = 0
  · refine brT (by rw [ez, j0]; rfl) ?_
    refine pt_bit (.inr rfl) (by omega) (by omega) ?_
    exact put _ (by rw [hD m, if_pos j0]; exact ⟨fun hh => ⟨emi, (q1.M i m (by omega) (by omega)).1 hh⟩, fun hh => (q1.M i m (by omega) (by omega)).2 hh.2⟩)
  · refine brF (by rw [ez]; exact fun hh => j0 ((eq_L 0 (by decide) (by omega)).1 hh)) ?_
    refine pt_bit (.inr rfl) (by omega) (by omega) ?_
    exact put _ (by rw [hD m, if_neg j0]; exact ⟨fun hh => ⟨emi, (q1.M m i (by omega) (by omega)).1 hh⟩, fun hh => (q1.M m i (by omega) (by omega)).2 hh.2⟩)

/-- all values in a number. -/
noncomputable def dgs (S : Ist) : Nat → Int32
  | 0 => 17
  | k + 1 => cif (S.V k) (31 * dgs S k + S.val k) (dgs S k)
noncomputable def qDigest (X : AX) : An := match X.tr with
  | none => (-1, 3)
  | some r => (dgs X.S (8 * r.1.n), 0)
theorem pt_digest (R : TwRep T X) {Q : Int32 → TS → Prop} (h : ∀ U, TwRep U (X.ws (qDigest X).2) → Q (qDigest X).1 U) : wp_X1_digest T Q := by
  unfold wp_X1_digest
  refine pt_hasTree R ?_
  unfold qDigest at h
  cases ht : X.tr with
  | none =>
    rw [iP_neg (fun hh => hh rfl)]
    rw [ht] at h
    exact brT rfl (pt_refuse R h)
  | some r =>
  obtain ⟨V, sz, gv⟩ := r
  rw [iP_pos (by simp)]
  rw [ht] at h
  obtain ⟨A, ind, hg, K, IS, q1, ⟨O, q2⟩, q3, q4, q5⟩ := R.tt1 ht
  refine brF (by decide) ?_
  refine tlp_cnt (8 * V.n) (fun m s U => U = T ∧ s = (dgs X.S m, I m)) ⟨rfl, rfl⟩ ?_
  intro m s U KK hm hh hK
  obtain ⟨hU, hs⟩ := hh
  rw [hU, hs, q3]
  (try simp (disch := omega) only [L_le, le_L, L_lt, lt_L, eq_L, L_eq, I_le, I_lt, I_eq, I_ni, add_L, L_add, I_add, mul_L, L_mul, I_mul, sub_L, L_sub, I_sub, div_L, rem_L])
  by_cases em : m = 8 * V.n
  · refine brT (by omega) ?_
    rw [em]
    exact pt_gives R h
  refine brF (by omega) ⟨tix_I rfl (by show _ < 320; omega) (by decide), ?_⟩
  rw [q1.B.th m (by omega)]
  by_cases hVm : X.S.V m
  · rw [iP_pos ((IS.vv m).1 hVm)]
    refine brF (by decide) ⟨tix_I rfl (by show _ < 320; omega) (by decide), ?_⟩
    rw [q2.v m hVm]
    refine hK _ _ (by omega) ⟨rfl, ?_⟩
    show _ = (cif (X.S.V m) _ _, _)
    rw [cif_pos hVm]
  · rw [iP_neg (fun hh => hVm ((IS.vv m).2 hh))]
    refine brT rfl (hK _ _ (by omega) ⟨rfl, ?_⟩)
    show _ = (cif (X.S.V m) _ _, _)
    rw [cif_neg hVm]

noncomputable def qAnew (X : AX) (x : Int32) : An :=
  cif (inR x 2) (cif (X.tr ≠ none) (match X.an with
    | none => (-1, 7)
    | some a => (if x = 0 then I a.1 else I a.2, 0)) (-1, 3)) (-1, 1)
theorem pt_anew (R : TwRep T X) {Q : Int32 → TS → Prop} (h : ∀ U, TwRep U (X.ws (qAnew X x).2) → Q (qAnew X x).1 U) : wp_X1_anew x T Q := by
  unfold wp_X1_anew
  refine pt_isFromR (m := 2) (by decide) (by decide) ?_
  unfold qAnew at h
  by_cases hr : inR x 2
  rotate_left
  · rw [iP_neg hr]
    rw [cif_neg hr] at h
    exact brT rfl (pt_refuse R h)
  rw [iP_pos hr]
  rw [cif_pos hr] at h
  refine brF (by decide) ?_
  refine pt_hasTree R ?_
  by_cases ht : X.tr ≠ none
  rotate_left
  · rw [iP_neg ht]
    rw [cif_neg ht] at h
    exact brT rfl (pt_refuse R h)
  rw [iP_pos ht]
  rw [cif_pos ht] at h
  refine brF (by decide) ?_
  cases ha : X.an with
  | none =>
    rw [ha] at h
    exact brT (R.a0 ht ha) (pt_refuse R h)
  | some a =>
    obtain ⟨a1, a2⟩ := a
    rw [ha] at h
    dsimp only at h
    obtain ⟨s1, s2, s3⟩ := R.a1 ht a1 a2 ha
    refine brF (by rw [s1]; decide) ?_
    intro m hm
    rw [hm, s2, s3]
    exact pt_gives R h
end
