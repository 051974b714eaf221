/-! plain: ax5 -/
set_option maxRecDepth 100000
section
variable {T : TS} {X : AX} {x y z : Int32} {A : PG} {V : Tv} {sz : Nat → Nat} {gv : Nat → Int32} {S : Ist}

/-- what is below a node lies below one of its children. -/
theorem trK.part (K : trK A V sz) {k e : Nat} (hk : k < V.n) (h1 : k < e) (h2 : e < k + sz k) : ∃ j, 1 ≤ j ∧ j ≤ A.g.kn (V.pd k) ∧ V.kd k j ≤ e ∧ e < V.kd k j + sz (V.kd k j) := by
  have N := K.nd k hk
  have c3 : k + sz k = if A.g.kn (V.pd k) = 0 then k + 1 else V.kd k (A.g.kn (V.pd k)) + sz (V.kd k (A.g.kn (V.pd k))) := N.c3
  have key : ∀ j, j ≤ A.g.kn (V.pd k) → 1 ≤ j → e < V.kd k j + sz (V.kd k j) → ∃ j, 1 ≤ j ∧ j ≤ A.g.kn (V.pd k) ∧ V.kd k j ≤ e ∧ e < V.kd k j + sz (V.kd k j) := by
    intro j
    induction j with
    | zero => intro _ h; omega
    | succ j ih =>
      intro a b c
      by_cases hle : V.kd k (j + 1) ≤ e
      · exact ⟨j + 1, b, a, hle, c⟩
      · by_cases hj : j = 0
        · subst hj
          have c1 : V.kd k 1 = k + 1 := N.c1 (by show 1 ≤ A.g.kn (V.pd k); omega)
          have c1' : V.kd k (0 + 1) = k + 1 := c1
          omega
        · have c2 : V.kd k (j + 1) = V.kd k j + sz (V.kd k j) := N.c2 j (by omega) (by show j < A.g.kn (V.pd k); omega)
          exact ih (by omega) (by omega) (by omega)
  by_cases hz : A.g.kn (V.pd k) = 0
  · rw [if_pos hz] at c3; omega
  · rw [if_neg hz] at c3
    exact key _ (Nat.le_refl _) (by omega) (by omega)
theorem trK.sub (K : trK A V sz) : ∀ (m k e : Nat), V.n - k < m → k < V.n → k < e → e < k + sz k → (∃ q, V.pa e = some q ∧ k ≤ q) ∧ e + sz e ≤ k + sz k
  | 0, _, _, h, _, _, _ => absurd h (Nat.not_lt_zero _)
  | m + 1, k, e, h, hk, h1, h2 => by
    obtain ⟨j, a, b, c, d⟩ := K.part hk h1 h2
    have N := K.nd k hk
    have q := N.c j a b
    have q1 : k < V.kd k j := q.1.1
    have q2 : V.kd k j + sz (V.kd k j) ≤ k + sz k := q.2.1
    have q3 : V.pa (V.kd k j) = some k := q.2.2.1
    have hl := (K.WF.kid k j hk a b).1
    by_cases e1 : e = V.kd k j
    · rw [e1]
      exact ⟨⟨k, q3, Nat.le_refl _⟩, q2⟩
    · have ih := trK.sub K m (V.kd k j) e (by omega) hl (by omega) d
      obtain ⟨⟨p, p1, p2⟩, p3⟩ := ih
      exact ⟨⟨p, p1, by omega⟩, by omega⟩
/-- just behind a part of a tree stands one whose parent is ahead of it. -/
theorem trK.beh (K : trK A V sz) {k : Nat} (hk : k < V.n) (he : k + sz k < V.n) : ∃ q, V.pa (k + sz k) = some q ∧ q < k := by
  have s1 : 1 ≤ sz k := (K.nd k hk).s1
  obtain ⟨q, h1, _, h3, h4, h5, h6⟩ := K.pr (k + sz k) (by omega) he
  have h1' : V.pa (k + sz k) = some q := h1
  have h3' : q < k + sz k := h3
  have h4' : 1 ≤ V.pl (k + sz k) := h4
  have h5' : V.pl (k + sz k) ≤ A.g.kn (V.pd q) := h5
  have h6' : V.kd q (V.pl (k + sz k)) = k + sz k := h6
  refine ⟨q, h1', Nat.lt_of_not_le (fun hle => ?_)⟩
  have hq : q < V.n := by omega
  have c := (K.nd q hq).c _ h4' h5'
  have c1 : V.kd q (V.pl (k + sz k)) < q + sz q := c.1.2
  by_cases e : q = k
  · subst e; omega
  · have := (K.sub _ k q (Nat.lt_succ_self _) hk (by omega) h3').2
    omega
theorem trK.dpa (K : trK A V sz) {k q : Nat} (hk : k < V.n) (h : V.pa k = some q) : q < k ∧ V.dp k = V.dp q + 1 := by
  have h0 : 0 < k := by
    rcases Nat.eq_zero_or_pos k with e | e
    · rw [e, K.r] at h; exact absurd h (by simp)
    · exact e
  obtain ⟨q', h1, _, h3, h4, h5, h6⟩ := K.pr k h0 hk
  have e : q' = q := Option.some.inj (h1.symm.trans h)
  subst e
  have h6' : V.kd q' (V.pl k) = k := h6
  have c := (K.nd q' (by omega)).c _ h4 h5
  have c2 : V.dp (V.kd q' (V.pl k)) = V.dp q' + 1 := c.2.2.2.2.2
  rw [h6'] at c2
  exact ⟨h3, c2⟩

theorem pt_sizeOf (K : trK A V sz) (J : TwI T A.g V gv) {k : Nat} (hk : k < V.n) {Q : Int32 → TS → Prop} (h : Q (I (sz k)) T) : wp_X1_sizeOf (I k) T Q := by
  have h40 := K.n40
  have s1 : 1 ≤ sz k := (K.nd k hk).s1
  have s2 : k + sz k ≤ V.n := (K.nd k hk).s2
  unfold wp_X1_sizeOf
  refine tlp_cnt (sz k - 1) (fun m s U => U = T ∧ s = I (1 + m)) ⟨rfl, rfl⟩ ?_
  intro m s U KK hm hh hK
  obtain ⟨hU, hs⟩ := hh
  rw [hU, hs, J.n]
  (try simp (disch := omega) only [L_le, le_L, L_lt, lt_L, eq_L, L_eq, I_le, I_lt, I_eq, I_ni, add_L, L_add, I_add, mul_L, L_mul, I_mul, sub_L, L_sub, I_sub, div_L, rem_L])
  by_cases em : m = sz k - 1
  · have e1 : 1 + m = sz k := by omega
    rw [e1]
    by_cases hl : k + sz k < V.n
    · obtain ⟨q, hq, hqk⟩ := K.beh hk hl
      refine brF (by omega) ⟨tix_I rfl (by show _ < 40; omega) (by decide), ?_⟩
      rw [J.pa _ hl, hq]
      exact brT ((I_lt (by omega) (by omega)).2 hqk) h
    · exact brT (by omega) h
  · have hl : k + (1 + m) < V.n := by omega
    obtain ⟨⟨q, hq, hqk⟩, _⟩ := K.sub _ k (k + (1 + m)) (Nat.lt_succ_self _) hk (by omega) (by omega)
    have hqn := (K.dpa hl hq).1
    refine brF (by omega) ⟨tix_I rfl (by show _ < 40; omega) (by decide), ?_⟩
    rw [J.pa _ hl, hq]
    refine brF (fun hh => by have := (I_lt (a := q) (by omega) (by omega)).1 hh; omega) ?_
    exact hK _ _ (by omega) ⟨rfl, by rw [Nat.add_assoc]⟩

theorem pt_depthOf (K : trK A V sz) (h0 : V.dp 0 = 0) (J : TwI T A.g V gv) : ∀ (d k : Nat) (Q : Int32 → TS → Prop), k < V.n → V.dp k < d → Q (I (V.dp k)) T → wp_X1_depthOf d (I k) T Q
  | 0, _, _, _, h, _ => absurd h (Nat.not_lt_zero _)
  | d + 1, k, Q, hk, hd, h => by
    have h40 := K.n40
    unfold wp_X1_depthOf
    refine ⟨tix_I rfl (by show _ < 40; omega) (by decide), ?_⟩
    rw [I_ni (by omega), J.pa k hk]
    cases hp : V.pa k with
    | none =>
      have e := (K.WF.root k hk).1 hp
      rw [e, h0] at h
      exact brT rfl h
    | some q =>
      obtain ⟨hq, e⟩ := K.dpa hk hp
      have hd12 : V.dp k < 12 := (K.nd k hk).d
      refine brF (I_neg1_ne (by omega)) ⟨tix_I rfl (by show _ < 40; omega) (by decide), ?_⟩
      rw [show oI (some q) = I q from rfl]
      refine pt_depthOf K h0 J d q _ (by omega) (by omega) ?_
      rw [e] at h
      (try simp (disch := omega) only [L_le, le_L, L_lt, lt_L, eq_L, L_eq, I_le, I_lt, I_eq, I_ni, add_L, L_add, I_add, mul_L, L_mul, I_mul, sub_L, L_sub, I_sub, div_L, rem_L])
      exact h

noncomputable def qNode (X : AX) (x y : Int32) : An :=
  cif (inR y 9) (match X.tr, X.gr with
    | some r, some q => cif (inR x r.1.n) (if y = 0 then (I (r.1.pd (ni x)), 0) else if y = 1 then (r.1.nu (ni x), 0) else if y = 2 then (oI (r.1.pa (ni x)), 0) else if y = 3 then (I (q.1.g.kn (r.1.pd (ni x))), 0)
        else if y = 7 then (I (r.2.1 (ni x)), 0) else if y = 8 then (I (r.1.dp (ni x)), 0) else if ni y - 4 < q.1.g.kn (r.1.pd (ni x)) then (I (r.1.kd (ni x) (ni y - 4 + 1)), 0) else (-1, 7)) (-1, 4)
    | _, _ => (-1, 3)) (-1, 1)
theorem pt_node (R : TwRep T X) {Q : Int32 → TS → Prop} (h : ∀ U, TwRep U (X.ws (qNode X x y).2) → Q (qNode X x y).1 U) : wp_X1_node x y T Q := by
  unfold wp_X1_node
  refine pt_isFromR (m := 9) (by decide) (by decide) ?_
  unfold qNode at h
  by_cases hr : inR y 9
  rotate_left
  · rw [iP_neg hr]
    rw [cif_neg hr] at h
    exact brT rfl (pt_refuse R h)
  rw [iP_pos hr]
  rw [cif_pos hr] at h
  refine brF (by decide) ?_
  cases ht : X.tr with
  | none =>
    rw [ht] at h
    exact brT (R.t0 ht) (pt_refuse R h)
  | some r =>
  obtain ⟨V, sz, gv⟩ := r
  obtain ⟨A, ind, hg, K, IS, q1, ⟨O, q2⟩, q3, q4, q5⟩ := R.tt1 ht
  obtain ⟨W, _⟩ := R.ok.g A ind hg
  have hd0 : V.dp 0 = 0 := by obtain ⟨_, _, _, _, h9⟩ := R.ok.t V sz gv ht; exact h9
  rw [ht, hg] at h
  dsimp only at h
  refine brF (by rw [q3]; intro hh; have := (I0 (by omega)).1 hh; omega) ?_
  refine pt_isNodeR K.WF q1.J ?_
  by_cases hx : inR x V.n
  rotate_left
  · rw [iP_neg hx]
    rw [cif_neg hx] at h
    exact brT rfl (pt_refuse R h)
  rw [iP_pos hx]
  rw [cif_pos hx] at h
  refine brF (by decide) ?_
  obtain ⟨k, hk, e⟩ := hx
  subst e
  rw [I_ni (by omega)] at h
  have hp := K.WF.pd k hk
  have hP := W.nP
  have hK3 := W.kn _ hp
  obtain ⟨j, hj, e⟩ := hr
  subst e
  rw [I_ni (by omega)] at h
  have ne : ∀ c, c < 9 → j ≠ c → ¬ I j = I c := fun c hc hn hh => hn ((I_eq (by omega) (by omega)).1 hh)
  by_cases j0 : j = 0
  · subst j0
    rw [if_pos (show I 0 = 0 from rfl)] at h
    refine brT rfl ⟨tix_I rfl (by show _ < 40; omega) (by decide), ?_⟩
    rw [I_ni (by omega), q1.J.pd k hk]
    exact pt_gives R h
  rw [if_neg (show ¬ I j = 0 from ne 0 (by decide) j0)] at h
  refine brF (show ¬ I j = 0 from ne 0 (by decide) j0) ?_
  by_cases j1 : j = 1
  · subst j1
    rw [if_pos (show I 1 = 1 from rfl)] at h
    refine brT rfl ⟨tix_I rfl (by show _ < 40; omega) (by decide), ?_⟩
    rw [I_ni (by omega), q1.J.nu k hk]
    exact pt_gives R h
  rw [if_neg (show ¬ I j = 1 from ne 1 (by decide) j1)] at h
  refine brF (show ¬ I j = 1 from ne 1 (by decide) j1) ?_
  by_cases j2 : j = 2
  · subst j2
    rw [if_pos (show I 2 = 2 from rfl)] at h
    refine brT rfl ⟨tix_I rfl (by show _ < 40; omega) (by decide), ?_⟩
    rw [I_ni (by omega), q1.J.pa k hk]
    exact pt_gives R h
  rw [if_neg (show ¬ I j = 2 from ne 2 (by decide) j2)] at h
  refine brF (show ¬ I j = 2 from ne 2 (by decide) j2) ?_
  by_cases j3 : j = 3
  · subst j3
    rw [if_pos (show I 3 = 3 from rfl)] at h
    refine brT rfl ⟨tix_I rfl (by show _ < 40; omega) (by decide), ?_⟩
    rw [I_ni (by omega), q1.J.pd k hk]
    (try simp (disch := omega) only [L_le, le_L, L_lt, lt_L, eq_L, L_eq, I_le, I_lt, I_eq, I_ni, add_L, L_add, I_add, mul_L, L_mul, I_mul, sub_L, L_sub, I_sub, div_L, rem_L])
    refine ⟨tix_I rfl (by show _ < 3816; omega) (by decide), ?_⟩
    rw [q1.J.A.kn _ hp]
    exact pt_gives R h
  rw [if_neg (show ¬ I j = 3 from ne 3 (by decide) j3)] at h
  refine brF (show ¬ I j = 3 from ne 3 (by decide) j3) ?_
  by_cases j7 : j = 7
  · subst j7
    rw [if_pos (show I 7 = 7 from rfl)] at h
    refine brF (by decide) (brT rfl ?_)
    exact pt_sizeOf K q1.J hk (pt_gives R h)
  rw [if_neg (show ¬ I j = 7 from ne 7 (by decide) j7)] at h
  by_cases j8 : j = 8
  · subst j8
    rw [if_pos (show I 8 = 8 from rfl)] at h
    refine brF (by decide) (brF (by decide) ?_)
    exact pt_depthOf K hd0 q1.J 16 k _ hk (by have h9 : V.dp k < 12 := (K.nd k hk).d; omega) (pt_gives R h)
  rw [if_neg (show ¬ I j = 8 from ne 8 (by decide) j8)] at h
  have j456 : j = 4 ∨ j = 5 ∨ j = 6 := by omega
  refine brT (by rcases j456 with e | e | e <;> subst e <;> decide) ⟨tix_I rfl (by show _ < 40; omega) (by decide), ?_⟩
  rw [I_ni (by omega), q1.J.pd k hk]
  (try simp (disch := omega) only [L_le, le_L, L_lt, lt_L, eq_L, L_eq, I_le, I_lt, I_eq, I_ni, add_L, L_add, I_add, mul_L, L_mul, I_mul, sub_L, L_sub, I_sub, div_L, rem_L])
  refine ⟨tix_I rfl (by show _ < 3816; omega) (by decide), ?_⟩
  rw [q1.J.A.kn _ hp]
  by_cases hl : j - 4 < A.g.kn (V.pd k)
  · rw [if_pos hl] at h
    refine brF (by (first | omega | ((try simp (disch := omega) only [L_le, le_L, L_lt, lt_L, eq_L, L_eq, I_le, I_lt, I_eq, I_ni, add_L, L_add, I_add, mul_L, L_mul, I_mul, sub_L, L_sub, I_sub, div_L, rem_L]); done) | ((try simp (disch := omega) only [L_le, le_L, L_lt, lt_L, eq_L, L_eq, I_le, I_lt, I_eq, I_ni, add_L, L_add, I_add, mul_L, L_mul, I_mul, sub_L, L_sub, I_sub, div_L, rem_L]); omega))) ?_
    exact pt_child W K.WF K.PO q1.J hk hl (pt_gives R h)
  · rw [if_neg hl] at h
    exact brT (by (first | omega | ((try simp (disch := omega) only [L_le, le_L, L_lt, lt_L, eq_L, L_eq, I_le, I_lt, I_eq, I_ni, add_L, L_add, I_add, mul_L, L_mul, I_mul, sub_L, L_sub, I_sub, div_L, rem_L]); done) | ((try simp (disch := omega) only [L_le, le_L, L_lt, lt_L, eq_L, L_eq, I_le, I_lt, I_eq, I_ni, add_L, L_add, I_add, mul_L, L_mul, I_mul, sub_L, L_sub, I_sub, div_L, rem_L]); omega))) (pt_refuse R h)

noncomputable def qLongest (X : AX) : An := match X.tr with
  | none => (-1, 3)
  | some _ => (I X.S.lng, 0)
theorem pt_longest (R : TwRep T X) {Q : Int32 → TS → Prop} (h : ∀ U, TwRep U (X.ws (qLongest X).2) → Q (qLongest X).1 U) : wp_X1_longest T Q := by
  unfold wp_X1_longest
  refine pt_hasTree R ?_
  unfold qLongest at h
  cases ht : X.tr with
  | none =>
    rw [iP_neg (fun hh => hh rfl)]
    rw [ht] at h
    exact brT rfl (pt_refuse R h)
  | some r =>
  obtain ⟨V, sz, gv⟩ := r
  rw [iP_pos (by simp)]
  rw [ht] at h
  obtain ⟨A, ind, hg, K, IS, q1, ⟨O, q2⟩, q3, q4, q5⟩ := R.tt1 ht
  have hMM := IS.mm
  have hO := q2.c
  refine brF (by decide) ?_
  refine tlp_cnt O.length (fun m s U => Tch [43] [] T U ∧ ∃ mo, s = (I mo, I m) ∧ (∀ i, dO X.S (O.take m) i → ¬ Trc X.S.E i i → U.a 43 i = I (X.S.ch i)) ∧ (∀ i, dO X.S (O.take m) i → ¬ Trc X.S.E i i → X.S.ch i ≤ mo) ∧ (mo = 0 ∨ ∃ i, i < X.S.M ∧ (X.S.V i ∧ ¬ Trc X.S.E i i) ∧ X.S.ch i = mo)) ⟨Tch.refl T, 0, rfl, fun i hi => absurd hi (dO_nil i), fun i hi => absurd hi (dO_nil i), .inl rfl⟩ ?_
  intro m s U KK hm hh hK
  obtain ⟨F, mo, hs, c1, c2, c3⟩ := hh
  rw [hs]
  have RU := R.keep F (by decide) (by decide)
  have nU : U.s 272 = I O.length := (F.s 272 (by decide)).trans q2.n
  have hmo : mo ≤ 321 := by
    rcases c3 with e | ⟨i, _, _, e⟩
    · omega
    · have := X.S.ch_le i; omega
  rw [nU]
  by_cases em : m = O.length
  · refine brT (by (first | omega | ((try simp (disch := omega) only [L_le, le_L, L_lt, lt_L, eq_L, L_eq, I_le, I_lt, I_eq, I_ni, add_L, L_add, I_add, mul_L, L_mul, I_mul, sub_L, L_sub, I_sub, div_L, rem_L]); done) | ((try simp (disch := omega) only [L_le, le_L, L_lt, lt_L, eq_L, L_eq, I_le, I_lt, I_eq, I_ni, add_L, L_add, I_add, mul_L, L_mul, I_mul, sub_L, L_sub, I_sub, div_L, rem_L]); omega))) ?_
    have e : X.S.lng = mo := mxP_eq (fun i hi => by
      rw [em, List.take_length] at c2
      exact c2 i (q2.all i hi.1) hi.2) c3
    rw [e] at h
    exact pt_gives RU h
  have hm' : m < O.length := by omega
  obtain ⟨gV, gh, gn, gr⟩ := q2.k m hm'
  have oU : U.a 31 m = I (O.getD m 0) := by rw [F.a 31 (by decide)]; exact q2.o m hm'
  generalize hgg : O.getD m 0 = g at *
  have hglt := X.S.hV g gV
  have hdt : ∀ y, dO X.S (O.take (m + 1)) y ↔ dO X.S (O.take m) y ∨ y ∈ cls X.S.E X.S.M g := fun y => by rw [← hgg]; exact dO_take hm'
  refine brF (by (first | omega | ((try simp (disch := omega) only [L_le, le_L, L_lt, lt_L, eq_L, L_eq, I_le, I_lt, I_eq, I_ni, add_L, L_add, I_add, mul_L, L_mul, I_mul, sub_L, L_sub, I_sub, div_L, rem_L]); done) | ((try simp (disch := omega) only [L_le, le_L, L_lt, lt_L, eq_L, L_eq, I_le, I_lt, I_eq, I_ni, add_L, L_add, I_add, mul_L, L_mul, I_mul, sub_L, L_sub, I_sub, div_L, rem_L]); omega))) ⟨tix_I rfl (by show _ < 320; omega) (by decide), ?_⟩
  rw [I_ni (by omega), oU]
  refine ⟨tix_I rfl (by show _ < 320; omega) (by decide), ?_⟩
  rw [I_ni (by omega)]
  intro U1 hU1
  have F1 : Tch [43] [] T U1 := by rw [hU1]; exact F.sa (by decide) _ _
  have a43 : U1.a 43 = updN (U.a 43) g 0 := by rw [hU1, sa_at]
  have x1 := q1.keep F1 (by decide) (by decide)
  refine ⟨tix_I rfl (by show _ < 320; omega) (by decide), ?_⟩
  by_cases htr : Trc X.S.E g g
  · rw [(x1.K g (by omega)).1 ⟨gV, htr⟩, gh]
    refine brF (I_neg1_ne (by omega)) ?_
    (try simp (disch := omega) only [L_le, le_L, L_lt, lt_L, eq_L, L_eq, I_le, I_lt, I_eq, I_ni, add_L, L_add, I_add, mul_L, L_mul, I_mul, sub_L, L_sub, I_sub, div_L, rem_L])
    refine hK _ _ hm' ⟨F1, mo, rfl, fun i hi hn => ?_, fun i hi hn => ?_, c3⟩
    · rcases (hdt i).1 hi with hi | hi
      · rw [a43, updN_ne _ _ (fun e => hn (by rw [show i = g from e]; exact htr))]; exact c1 i hi hn
      · exact absurd (X.S.trc_cls hi htr) hn
    · rcases (hdt i).1 hi with hi | hi
      · exact c2 i hi hn
      · exact absurd (X.S.trc_cls hi htr) hn
  · rw [(x1.K g (by omega)).2 (fun hh => htr hh.2)]
    refine brT rfl ⟨tix_I rfl (by show _ < 320; omega) (by decide), ?_⟩
    intro U2 hU2
    have hone : ∀ j, j ∈ cls X.S.E X.S.M g → j = g := fun j hj => X.S.alone htr hj
    have F2 : Tch [43] [] T U2 := by rw [hU2]; exact F1.sa (by decide) _ _
    have b43 : U2.a 43 g = I (1 + 0) ∧ ∀ i, i ≠ g → U2.a 43 i = U.a 43 i := by
      rw [hU2, sa_at, a43]
      exact ⟨by rw [updN_same]; rfl, fun i hi => by rw [updN_ne _ _ hi, updN_ne _ _ hi]⟩
    refine tlp_cnt (8 * V.n) (fun j s U3 => s = I j ∧ Tch [43] [] T U3 ∧ (∀ i, i ≠ g → U3.a 43 i = U.a 43 i) ∧ ∃ w, U3.a 43 g = I (1 + w) ∧ (∀ j', j' < j → X.S.E g j' → ¬ Trc X.S.E j' j' → X.S.ch j' ≤ w) ∧ (w = 0 ∨ ∃ j', j' < X.S.M ∧ (X.S.E g j' ∧ ¬ Trc X.S.E j' j') ∧ X.S.ch j' = w)) ⟨rfl, F2, b43.2, 0, b43.1, fun j' hj => absurd hj (Nat.not_lt_zero _), .inl rfl⟩ ?_
    clear b43 hU2 F2 U2 hU1 a43 x1 F1 U1
    intro j s U3 KJ hj hh hKJ
    obtain ⟨hs, F3, o3, w, w1, w2, w3⟩ := hh
    have x3 := q1.keep F3 (by decide) (by decide)
    rw [hs, x3.J.n]
    have hw : w ≤ 321 := by
      rcases w3 with e | ⟨i, _, _, e⟩
      · omega
      · have := X.S.ch_le i; omega
    (try simp (disch := omega) only [L_le, le_L, L_lt, lt_L, eq_L, L_eq, I_le, I_lt, I_eq, I_ni, add_L, L_add, I_add, mul_L, L_mul, I_mul, sub_L, L_sub, I_sub, div_L, rem_L])
    by_cases ej : j = 8 * V.n
    · refine brT (by omega) ⟨tix_I rfl (by show _ < 320; omega) (by decide), ?_⟩
      rw [w1]
      have hch : X.S.ch g = 1 + w := by
        rw [X.S.ch_eq htr, mxP_eq (x := w) (fun j' hj' => w2 j' (by have := X.S.hV _ (X.S.hE _ _ hj'.1).2; omega) hj'.1 hj'.2) w3]
      have em2 : (if I mo < I (1 + w) then I (1 + w) else I mo) = I (max mo (1 + w)) := by
        by_cases hl : mo < 1 + w
        · rw [if_pos ((I_lt (by omega) (by omega)).2 hl), Nat.max_eq_right (by omega)]
        · rw [if_neg (fun hh => hl ((I_lt (by omega) (by omega)).1 hh)), Nat.max_eq_left (by omega)]
      rw [em2]
      refine hK _ _ hm' ⟨F3, max mo (1 + w), rfl, fun i hi hn => ?_, fun i hi hn => ?_, ?_⟩
      · rcases (hdt i).1 hi with hi | hi
        · by_cases ei : i = g
          · rw [ei, w1, hch]
          · rw [o3 i ei]; exact c1 i hi hn
        · rw [hone i hi, w1, hch]
      · rcases (hdt i).1 hi with hi | hi
        · exact Nat.le_trans (c2 i hi hn) (Nat.le_max_left _ _)
        · rw [hone i hi, hch]; exact Nat.le_max_right _ _
      · by_cases hl : mo ≤ 1 + w
        · rw [Nat.max_eq_right hl]
          exact .inr ⟨g, hglt, ⟨gV, htr⟩, hch⟩
        · rw [Nat.max_eq_left (by omega)]; exact c3
    have hj' : j < 8 * V.n := by omega
    refine brF (by omega) ?_
    refine pt_bit (.inl rfl) (by omega) (by omega) ?_
    have hb := x3.N g j (by omega) (by omega)
    have skip : (X.S.E g j → Trc X.S.E j j) → KJ (I (j + 1)) U3 := fun hn => hKJ _ _ hj' ⟨rfl, F3, o3, w, w1, fun j9 hl he hn9 => by
      by_cases e9 : j9 = j
      · subst e9; exact absurd (hn he) hn9
      · exact w2 j9 (by omega) he hn9, w3⟩
    by_cases hE : X.S.E g j
    rotate_left
    · rw [if_neg (fun hh => hE (hb.1 hh))]
      exact brT rfl (skip (fun hh => absurd hh hE))
    rw [if_pos (hb.2 hE)]
    have Vj := (X.S.hE _ _ hE).2
    refine brF (by decide) ⟨tix_I rfl (by show _ < 320; omega) (by decide), ?_⟩
    by_cases htj : Trc X.S.E j j
    · have e29 := (x3.K j (by omega)).1 ⟨Vj, htj⟩
      have hhd := X.S.hV _ (X.S.cls_V Vj (X.S.hd_mem Vj))
      rw [e29]
      exact brF (I_neg1_ne (by omega)) (skip (fun _ => htj))
    · rw [(x3.K j (by omega)).2 (fun hh => htj hh.2)]
      have hne : j ≠ g := fun e => htr ⟨j, hE, by rw [e]; exact Rch.refl _⟩
      have hdone : dO X.S (O.take m) j := by
        rcases gr g j (X.S.cls_self gV) hE with h9 | h9
        · exact h9
        · exact absurd (hone j h9) hne
      have ej43 : U3.a 43 j = I (X.S.ch j) := by rw [o3 j hne]; exact c1 j hdone htj
      have hcl := X.S.ch_le j
      refine brT rfl ⟨tix_I rfl (by show _ < 320; omega) (by decide), tix_I rfl (by show _ < 320; omega) (by decide), tix_I rfl (by show _ < 320; omega) (by decide), ?_⟩
      rw [ej43, w1]
      intro U4 hU4
      have em2 : (if I (1 + w) < I (X.S.ch j) + 1 then I (X.S.ch j) + 1 else I (1 + w)) = I (1 + max w (X.S.ch j)) := by
        have e1 : I (X.S.ch j) + 1 = I (X.S.ch j + 1) := by (try simp (disch := omega) only [L_le, le_L, L_lt, lt_L, eq_L, L_eq, I_le, I_lt, I_eq, I_ni, add_L, L_add, I_add, mul_L, L_mul, I_mul, sub_L, L_sub, I_sub, div_L, rem_L])
        rw [e1]
        by_cases hl : 1 + w < X.S.ch j + 1
        · rw [if_pos ((I_lt (by omega) (by omega)).2 hl), Nat.max_eq_right (by omega), Nat.add_comm]
        · rw [if_neg (fun hh => hl ((I_lt (by omega) (by omega)).1 hh)), Nat.max_eq_left (by omega)]
      rw [em2] at hU4
      refine hKJ _ _ hj' ⟨rfl, by rw [hU4]; exact F3.sa (by decide) _ _, fun i hi => by rw [hU4, sa_at, updN_ne _ _ hi]; exact o3 i hi, max w (X.S.ch j), by rw [hU4, sa_at, updN_same], fun j9 hl he hn9 => ?_, ?_⟩
      · by_cases e9 : j9 = j
        · subst e9; exact Nat.le_max_right _ _
        · exact Nat.le_trans (w2 j9 (by omega) he hn9) (Nat.le_max_left _ _)
      · by_cases hl : w ≤ X.S.ch j
        · rw [Nat.max_eq_right hl]
          exact .inr ⟨j, X.S.hV j Vj, ⟨hE, htj⟩, rfl⟩
        · rw [Nat.max_eq_left (by omega)]; exact w3
end
