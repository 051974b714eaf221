/-! plain: gr4 -/
set_option maxRecDepth 100000
section
variable {T U : TS} {X : AX} {x y : Int32} {A : PG} {V : Tv} {gv : Nat → Int32} {sz : Nat → Nat} {k : Nat} {P : PT}

theorem pt_graft (R : TwRep T X) {Q : Int32 → TS → Prop} (h : ∀ U, TwRep U (xGraft X x y) → Q (qGraft X x y) U) : wp_X1_graft x y T Q := by
  have hm := R.ok.m
  unfold wp_X1_graft
  refine pt_isFromR (m := X.m + 1) (by omega) (by rw [R.n]; exact (I_sub (a := X.m + 1) (b := 1) (by omega)).symm) ?_
  unfold xGraft qGraft at h
  by_cases hr : inR y (X.m + 1)
  rotate_left
  · rw [iP_neg hr]
    rw [cif_neg hr, cif_neg hr] at h
    exact brT rfl (pt_refuse R h)
  rw [iP_pos hr]
  rw [cif_pos hr, cif_pos hr] at h
  refine brF (by decide) ?_
  refine pt_hasTree R ?_
  cases ht : X.tr with
  | none =>
    rw [ht] at h
    rw [iP_neg (fun hh => hh rfl)]
    exact brT rfl (pt_refuse R h)
  | some r =>
  obtain ⟨V, sz, gv⟩ := r
  obtain ⟨A, ind, hg, K, IS, q1, ⟨O, q2⟩, q3, q4, q5⟩ := R.tt1 ht
  obtain ⟨_, _, _, _, hd0⟩ := R.ok.t V sz gv ht
  obtain ⟨W, RL, hI, s, g, h5⟩ := R.gg hg
  rw [iP_pos (by simp)]
  rw [hg, ht] at h
  dsimp only at h
  refine brF (by decide) ?_
  refine pt_isNodeR K.WF q1.J ?_
  by_cases hx : inR x V.n
  rotate_left
  · rw [iP_neg hx]
    rw [cif_neg hx, cif_neg hx] at h
    exact brT rfl (pt_refuse R h)
  rw [iP_pos hx]
  rw [cif_pos hx, cif_pos hx] at h
  refine brF (by decide) ?_
  obtain ⟨k, hk, e⟩ := hx
  subst e
  obtain ⟨u, hu, e⟩ := hr
  subst e
  rw [I_ni (show k < 2147483648 by omega), I_ni (show u < 2147483648 by omega)] at h
  have ek := K.ends hk
  have hMM := IS.mm
  refine pt_sizeOf K q1.J hk ?_
  intro T1 hT1
  rw [q3, I_sub ek.2 |> fun _ => I_sub (a := V.n) (b := sz k) (by omega)] at hT1
  have F1 : Tch [] [252] T T1 := by rw [hT1]; exact (Tch.refl T).ss (by decide) _
  have F1' : Tcw [] [252] [] T T1 := by rw [hT1]; exact (Tcw.refl T).ss (by decide) _
  have R1 := R.keep F1 (by decide) (by decide)
  have x1 := q1.keep F1 (by decide) (by decide)
  refine pt_symbolOf W K.WF x1.J hk ?_
  have hd12 : V.dp k < 12 := (K.nd k hk).d
  refine pt_depthOf K hd0 x1.J 16 k _ hk (by omega) ?_
  have e16 : I (V.dp k) + 1 = I (V.dp k + 1) := I_add _ 1
  rw [e16]
  have hsmS := K.WF.smS W hk
  refine pt_readTree (need := some (V.sm A.g k)) (dp := V.dp k) (oth := V.n - sz k) R1 hg (by omega) (by rw [hT1]; rfl) (by omega) (by omega) (fun s' e => by rw [← Option.some.inj e]; exact hsmS) ?_ ?_
  rotate_left
  · intro U f e FU f' z5
    rw [e] at h
    dsimp only at h
    intro U1 hU1 U2 hU2 m3 hm3
    rw [f'.1] at hU1
    have e217 : U1.s 217 = I f.2 := by rw [hU1]; exact f'.2
    rw [e217] at hU2
    rw [if_pos rfl] at hm3
    rw [hm3]
    refine brF (by decide) ?_
    have FU2 : Tcw [] [207, 208] [] U U2 := by rw [hU2, hU1]; exact ((Tcw.refl U).ss (by decide) _).ss (by decide) _
    have all : Tcw [22, 23, 24] [205, 207, 208, 210, 211, 212, 213, 214, 215, 216, 217, 251, 252] [] T U2 := ((F1'.mono (by decide) (by decide) (by decide)).trans (FU.mono (by decide) (by decide) (by decide))).trans (FU2.mono (by decide) (by decide) (by decide))
    refine pt_refuse (X := AX.mk 0 X.tp X.st (I f.1) (I f.2) X.gr X.tr X.an) ?_ (by rw [hg, ht]; exact h)
    exact R.kw all (by decide) (by decide) (by decide) rfl rfl rfl (by show 0 ≤ 1000; omega) R.ok.b ((FU2.s _ (by decide)).trans z5) (fun k hk => absurd (show k < 0 from hk) (by omega)) ((all.s _ (by decide)).trans R.st) (by rw [hU2, hU1]; rfl) (by rw [hU2]; rfl)
  intro U P e FU D z6 z7 z5
  rw [e] at h
  dsimp only at h
  obtain ⟨KP, hP40, hneed, hPd⟩ := pTr_ok W (by omega) e
  have hsy : A.g.sy (P.V.pd 0) 0 = A.g.sy (V.pd k) 0 := by
    rcases hneed with h' | h'
    · exact absurd h' (by simp)
    · exact (Option.some.inj h').symm
  have m1 := KP.n1
  have m40 := KP.n40
  have Z := spl_R (V := V) (sz := sz) (k := k) (P := P) ek.1 m1 ek.2
  have hV'n : (V.spl sz k P).n = V.n + P.V.n - sz k := rfl
  have K' := Z.trK K KP hk (by rw [hV'n]; omega) hsy hPd
  have hd0' : (V.spl sz k P).dp 0 = 0 := by
    by_cases hk0 : k = 0
    · have := Z.dpP 0 (by omega)
      rw [Nat.add_zero, hk0] at this
      rw [show (V.spl sz k P).dp 0 = (V.spl sz 0 P).dp 0 by rw [hk0], this, hPd, hk0, hd0]
    · have := Z.dp 0 (.inl (by omega)) (fun e => hk0 e.symm)
      rw [rnU_le (by omega)] at this
      rw [this, hd0]
  intro U1 hU1 U2 hU2 m3 hm3
  rw [z6] at hU1
  have e217 : U1.s 217 = -1 := by rw [hU1]; exact z7
  rw [e217] at hU2
  rw [if_neg (by decide)] at hm3
  rw [hm3]
  refine brT (by decide) ?_
  have FU2 : Tcw [] [207, 208] [] U U2 := by rw [hU2, hU1]; exact ((Tcw.refl U).ss (by decide) _).ss (by decide) _
  have all : Tcw [22, 23, 24] [205, 207, 208, 210, 211, 212, 213, 214, 215, 216, 217, 251, 252] [] T U2 := ((F1'.mono (by decide) (by decide) (by decide)).trans (FU.mono (by decide) (by decide) (by decide))).trans (FU2.mono (by decide) (by decide) (by decide))
  -- from here on over what is known now
  have RY : TwRep U2 (AX.mk 0 X.tp X.st 0 (-1) X.gr X.tr X.an) := R.kw all (by decide) (by decide) (by decide) rfl rfl rfl (by show 0 ≤ 1000; omega) R.ok.b ((FU2.s _ (by decide)).trans z5) (fun k hk => absurd (show k < 0 from hk) (by omega)) ((all.s _ (by decide)).trans R.st) (by rw [hU2, hU1]; rfl) (by rw [hU2]; rfl)
  have x2 : TwX U2 A.g V gv X.S := (q1.keep all.tch (by decide) (by decide)).of rfl rfl
  have y2 : TwE U2 X.S O := (q2.keepQ all.tch (by decide) (by decide)).of rfl rfl
  have e251 : U2.s 251 = I P.V.n := (FU2.s _ (by decide)).trans D.m
  have hvis : ∀ j, V.is A.g j → j < 8 * V.n := fun j hj => K.WF.isLt hj
  refine pt_beginsChange ?_
  intro T3 F3 hz
  have x3 := x2.keep F3 (by decide) (by decide)
  have s3 : ∀ f, T3.s f = U2.s f := fun f => F3.s f (by simp)
  refine tlp_cnt (8 * V.n) (fun i s W' => s = I i ∧ Tch [39] [] T3 W' ∧ (∀ j, j < i → W'.a 39 j = iP (X.S.tie (8 * k) (8 * (k + sz k)) j)) ∧ ∀ j, i ≤ j → j < 320 → W'.a 39 j = 0) ⟨rfl, Tch.refl T3, fun j hj => absurd hj (by omega), fun j _ hj => (hz j hj).1⟩ ?_
  intro i s' T4 KK hi hh hK
  obtain ⟨es, F4, i1, i2⟩ := hh
  have x4 := x3.keep F4 (by decide) (by decide)
  rw [es, x4.J.n]
  by_cases ei : i = 8 * V.n
  rotate_left
  · have hi' : i < 8 * V.n := by omega
    refine brF (fun hh => ?_) ?_
    · have h9 : I (8 * V.n) ≤ I i := by rw [← I_mul]; exact hh
      have := (I_le (by omega) (by omega)).1 h9
      omega
    refine ⟨tix_I rfl (by show _ < 320; omega) (by decide), ?_⟩
    rw [I_ni (show i < 2147483648 by omega), x4.B.th i (by omega)]
    have put : ∀ (m : Int32) (Z1 : TS), m = iP (X.S.tie (8 * k) (8 * (k + sz k)) i) → Z1 = T4.sa 39 i (vp_nar .boolean m) → KK (I i + 1) Z1 := by
      intro m Z1 hm' hZ1
      have em : vp_nar .boolean m = m := by
        rw [hm']
        rcases iP_01 (X.S.tie (8 * k) (8 * (k + sz k)) i) with e | e <;> rw [e] <;> rfl
      rw [em] at hZ1
      (try simp (disch := omega) only [L_le, le_L, L_lt, lt_L, eq_L, L_eq, I_le, I_lt, I_eq, I_ni, add_L, L_add, I_add, mul_L, L_mul, I_mul, sub_L, L_sub, I_sub, div_L, rem_L])
      refine hK _ _ hi' ⟨rfl, by rw [hZ1]; exact F4.sa (by decide) _ _, fun j hj => ?_, fun j h1 h2 => ?_⟩
      · rw [hZ1, sa_at]
        by_cases ej : j = i
        · rw [ej, updN_same, hm']
        · rw [updN_ne _ _ ej]; exact i1 j (by omega)
      · rw [hZ1, sa_at, updN_ne _ _ (by omega)]; exact i2 j (by omega) h2
    by_cases his : V.is A.g i
    rotate_left
    · rw [iP_neg his]
      refine brT rfl ⟨tix_I rfl (by show _ < 320; omega) (by decide), fun Z1 hZ1 => put 0 Z1 (by rw [iP_neg (fun hh => his ((IS.vv i).1 hh.1))]) hZ1⟩
    rw [iP_pos his]
    refine brF (by decide) ?_
    refine pt_wasTied IS K.WF x4 his ek.2 ?_
    intro m hm'
    refine ⟨tix_I rfl (by show _ < 320; omega) (by decide), fun Z1 hZ1 => put m Z1 ?_ hZ1⟩
    rcases iP_01 (X.S.tie (8 * k) (8 * (k + sz k)) i) with e' | e'
    · rw [e'] at hm' ⊢; rw [if_pos rfl] at hm'; exact hm'
    · rw [e'] at hm' ⊢; rw [if_neg (by decide)] at hm'; exact hm'
  subst ei
  have s4 : ∀ f, T4.s f = U2.s f := fun f => (F4.s f (by simp)).trans (s3 f)
  have F24 : Tch [32, 33, 39, 40, 41] [] U2 T4 := F3.trans ⟨fun j hj => F4.a j (fun hh => hj (by rw [List.mem_singleton.1 hh]; decide)), F4.s, F4.w, F4.l⟩
  have r39 : ∀ j, j < 320 → T4.a 39 j = iP (X.S.tie (8 * k) (8 * (k + sz k)) j) := fun j hj => by
    by_cases l : j < 8 * V.n
    · exact i1 j l
    · rw [i2 j (by omega) hj, iP_neg (fun hh => l (hvis j ((IS.vv j).1 hh.1)))]
  have r40 : ∀ j, j < 320 → T4.a 40 j = 0 := fun j hj => by rw [F4.a 40 (by decide)]; exact (hz j hj).2.1
  have r41 : ∀ j, j < 320 → T4.a 41 j = 0 := fun j hj => by rw [F4.a 41 (by decide)]; exact (hz j hj).2.2.1
  have r32 : ∀ j, V.is A.g j → T4.a 32 j = X.S.val j := fun j hj => by
    rw [F4.a 32 (by decide), (hz j (by have := hvis j hj; omega)).2.2.2]
    exact y2.v j ((IS.vv j).2 hj)
  refine brT (by (first | omega | ((try simp (disch := omega) only [L_le, le_L, L_lt, lt_L, eq_L, L_eq, I_le, I_lt, I_eq, I_ni, add_L, L_add, I_add, mul_L, L_mul, I_mul, sub_L, L_sub, I_sub, div_L, rem_L]); done) | ((try simp (disch := omega) only [L_le, le_L, L_lt, lt_L, eq_L, L_eq, I_le, I_lt, I_eq, I_ni, add_L, L_add, I_add, mul_L, L_mul, I_mul, sub_L, L_sub, I_sub, div_L, rem_L]); omega))) ?_
  have e51 : T4.s 251 = I P.V.n := (s4 251).trans e251
  rw [e51]
  have ekb : I k + I (sz k) = I (k + sz k) := I_add _ _
  rw [ekb]
  have paq : ∀ e, k + sz k ≤ e → e < V.n → ∃ q, V.pa e = some q ∧ stU k (sz k) q ∧ q < V.n ∧ T4.a 21 e = I q := fun e h1 h2 => by
    obtain ⟨q, hq, _⟩ := K.pr e (by omega) h2
    have hq' : V.pa e = some q := hq
    obtain ⟨p1, p2, p3⟩ := K.stP hk h2 (.inr h1) hq'
    exact ⟨q, hq', p1, by omega, by rw [x4.J.pa e h2, hq']; rfl⟩
  refine pt_movesBehind (n := V.n) (b := k + sz k) (m := P.V.n) (s := sz k) (w := fun e => oI ((V.pa e).map (rnU k (sz k) P.V.n))) x4.J.n q5 ek.2 (by omega) m1 ek.1 (by omega) r40 (fun j hj => by rw [r39 j hj]; exact iP_01 _) ?_ ?_
  · intro e h1 h2
    obtain ⟨q, a1, a2, a3, a4⟩ := paq e h1 h2
    rw [a4, a1]
    show I (rnU k (sz k) P.V.n q) = _
    rcases a2 with h' | h'
    · rw [rnU_le h', if_pos ((I_lt (by omega) (by omega)).2 (by omega))]
    · rw [rnU_gt (by omega), if_neg (fun hh => by have := (I_lt (by omega) (by omega)).1 hh; omega), I_shift (by omega)]
  intro T5 F5 mv1 mv2 b5
  have x5J : T5.s 250 = I V.n := (F5.s _ (by decide)).trans x4.J.n
  refine ⟨tix_I rfl (by show _ < 40; omega) (by decide), ?_⟩
  have F25 : Tch [19, 20, 21, 32, 33, 39, 40, 41] [] U2 T5 := (Tch.trans (A := [19, 20, 21, 32, 33, 39, 40, 41]) (S := []) ⟨fun j hj => F24.a j (fun hh => hj (by revert hh; simp; omega)), F24.s, F24.w, F24.l⟩ ⟨fun j hj => F5.a j (fun hh => hj (by revert hh; simp; omega)), F5.s, F5.w, F5.l⟩)
  have M0 : ∀ e, e ≤ k → MvI T4 T5 e e (T4.a 21 e) := fun e he => mv2 e (by omega) (by omega)
  refine pt_laysIn (P := P) (gv := gv) (n := 0) (m := 0) (s := 0) (Q := Q) K KP hk (by omega) hsy hPd W x5J (by rw [F5.s _ (by decide)]; exact e51) (by rw [F25.a 1 (by decide)]; exact x2.J.A) (by rw [F25.a 1 (by decide)]; exact x2.J.C) (by rw [F25.a 25 (by decide)]; exact x2.J.gi)
    (fun q hq => by rw [F25.a 22 (by decide), FU2.a 22 (by decide)]; exact D.pd q hq) (fun q hq => by rw [F25.a 23 (by decide), FU2.a 23 (by decide)]; exact D.nu q hq) (fun q hq => by rw [F25.a 24 (by decide), FU2.a 24 (by decide)]; exact D.pa q hq)
    (fun e he => ⟨(M0 e (by omega)).p.trans (x4.J.pd e (by omega)), (M0 e (by omega)).o.trans (x4.J.nu e (by omega))⟩) (fun e he => (M0 e he).q.trans (x4.J.pa e (by omega))) (fun e h1 h2 => ?_) (fun j hj => (b5 j hj).1) (fun j hj _ _ => (b5 j hj).2) (fun j hj => .inl (b5 j hj).2) (by rw [I_ni (by omega)]; exact (M0 k (Nat.le_refl _)).q.trans (x4.J.pa k hk)) ?_
  · have M := mv1 e h1 h2
    refine ⟨M.p.trans (x4.J.pd e h2), M.o.trans (x4.J.nu e h2), fun q hq => ?_⟩
    obtain ⟨q', a1, a2, a3, a4⟩ := paq e h1 h2
    have eq : q' = q := Option.some.inj (a1.symm.trans hq)
    subst eq
    rw [M.q]
    by_cases hms : P.V.n = sz k
    · rw [if_pos hms, a4]
      congr 1
      rcases a2 with h' | h'
      · rw [rnU_le h']
      · rw [rnU_gt (by omega)]; omega
    · rw [if_neg hms, hq]; rfl
  intro T6 F6 J6 l1 l2 l3 l4 l5 l6
  have s6 : ∀ f, f ≠ 250 → T6.s f = U2.s f := fun f hf => (F6.s f (by simpa using hf)).trans ((F5.s f (by simp)).trans (s4 f))
  have F26 : Tcw [19, 20, 21, 32, 33, 39, 40, 41] [250] [] U2 T6 := (Tcw.trans (A := [19, 20, 21, 32, 33, 39, 40, 41]) (S := [250]) (L := []) ⟨F25.a, fun f _ => F25.s f (by simp), fun j _ => by rw [F25.l]⟩ ⟨fun j hj => F6.a j (fun hh => hj (by revert hh; simp; omega)), F6.s, fun j _ => by rw [F6.l]⟩)
  have a32 : T6.a 32 = T5.a 32 := F6.a 32 (by decide)
  have hin := W.ins _ hsmS
  have hesm : (V.spl sz k P).sm A.g k = V.sm A.g k := by
    show A.g.sy ((V.spl sz k P).pd k) 0 = A.g.sy (V.pd k) 0
    have := Z.pdP 0 (by omega)
    rw [Nat.add_zero] at this
    rw [this, hsy]
  -- what is due, what is new
  have key : ∀ j, (V.spl sz k P).is A.g j → (T6.a 39 j = 1 ↔ gDue X.S k (sz k) P.V.n (A.g.ins (V.sm A.g k)) j) ∧ (T6.a 40 j = 1 ↔ gNew k P.V.n j) ∧ (¬ gNew k P.V.n j → T6.a 32 j = gOld X.S.val k (sz k) P.V.n j) := by
    intro j hj
    have hj1 : j / 8 < V.n + P.V.n - sz k := hj.1
    have hj2 : j % 8 < A.g.cnt ((V.spl sz k P).sm A.g (j / 8)) := hj.2
    rcases Nat.lt_trichotomy (j / 8) k with l | l | l
    · have M := (M0 (j / 8) (by omega)).i (j % 8) (by omega)
      rw [show 8 * (j / 8) + j % 8 = j by omega] at M
      have his : V.is A.g j := by
        refine ⟨by omega, ?_⟩
        have e1 := Z.pd (j / 8) (.inl (by omega)) (by omega)
        rw [rnU_le (by omega)] at e1
        have e2 : (V.spl sz k P).sm A.g (j / 8) = V.sm A.g (j / 8) := by show A.g.sy ((V.spl sz k P).pd (j / 8)) 0 = A.g.sy (V.pd (j / 8)) 0; rw [e1]
        rw [e2] at hj2; exact hj2
      refine ⟨?_, ?_, fun _ => ?_⟩
      · rw [l1 j (by omega), M.2.1, r39 j (by omega), iP_eq1]
        exact ⟨fun hh => .inl ⟨l, hh⟩, fun hh => by rcases hh with hh | hh | hh | hh <;> first | exact hh.2 | (have := hh.1; omega)⟩
      · rw [l5 j (.inl (by omega)), M.2.2]
        exact ⟨fun hh => absurd hh (by decide), fun hh => by have := hh.1; omega⟩
      · unfold gOld
        rw [if_pos (by omega), a32, M.1, r32 j his]
    · have M := (M0 (j / 8) (by omega)).i (j % 8) (by omega)
      rw [show 8 * (j / 8) + j % 8 = j by omega] at M
      rw [l, hesm] at hj2
      have his : V.is A.g j := ⟨by omega, by rw [l]; exact hj2⟩
      refine ⟨?_, ?_, fun _ => ?_⟩
      · by_cases hc : A.g.ins (V.sm A.g k) ≤ j % 8
        · rw [l2 j (by omega) (by omega)]
          exact ⟨fun _ => .inr (.inl ⟨l, .inl hc⟩), fun _ => rfl⟩
        · rw [l1 j (by omega), M.2.1, r39 j (by omega), iP_eq1]
          exact ⟨fun hh => .inr (.inl ⟨l, .inr hh⟩), fun hh => by rcases hh with hh | hh | hh | hh <;> first | exact hh.2.elim (fun a => absurd a hc) id | (have := hh.1; omega)⟩
      · rw [l5 j (.inl (by omega)), M.2.2]
        exact ⟨fun hh => absurd hh (by decide), fun hh => by have := hh.1; omega⟩
      · unfold gOld
        rw [if_pos (by omega), a32, M.1, r32 j his]
    · by_cases l' : j / 8 < k + P.V.n
      · obtain ⟨n1, n2⟩ := l3 j (by omega) (by omega)
        exact ⟨⟨fun _ => .inr (.inr (.inl ⟨l, l'⟩)), fun _ => n1⟩, ⟨fun _ => ⟨l, l'⟩, fun _ => n2⟩, fun hh => absurd ⟨l, l'⟩ hh⟩
      · have M := (mv1 (j / 8 + sz k - P.V.n) (by omega) (by omega)).i (j % 8) (by omega)
        rw [show 8 * (j / 8 + sz k - P.V.n + P.V.n - sz k) + j % 8 = j by omega, show 8 * (j / 8 + sz k - P.V.n) + j % 8 = j + 8 * sz k - 8 * P.V.n by omega] at M
        have his : V.is A.g (j + 8 * sz k - 8 * P.V.n) := by
          have d1 : (j + 8 * sz k - 8 * P.V.n) / 8 = j / 8 + sz k - P.V.n := by omega
          have d2 : (j + 8 * sz k - 8 * P.V.n) % 8 = j % 8 := by omega
          refine ⟨by omega, ?_⟩
          rw [d1, d2]
          have e1 := Z.pd (j / 8 + sz k - P.V.n) (.inr (by omega)) (by omega)
          rw [rnU_gt (by omega), show j / 8 + sz k - P.V.n + P.V.n - sz k = j / 8 by omega] at e1
          have e2 : (V.spl sz k P).sm A.g (j / 8) = V.sm A.g (j / 8 + sz k - P.V.n) := by show A.g.sy ((V.spl sz k P).pd (j / 8)) 0 = A.g.sy (V.pd _) 0; rw [e1]
          rw [← e2]; exact hj2
        refine ⟨?_, ?_, fun _ => ?_⟩
        · rw [l4 j (by omega), M.2.1, r39 _ (by omega), iP_eq1]
          exact ⟨fun hh => .inr (.inr (.inr ⟨by omega, hh⟩)), fun hh => by rcases hh with hh | hh | hh | hh <;> first | exact hh.2 | (have := hh.1; omega) | (have := hh.2; omega)⟩
        · rw [l5 j (.inr (by omega)), M.2.2]
          exact ⟨fun hh => absurd hh (by decide), fun hh => by have := hh.2; omega⟩
        · unfold gOld
          rw [if_neg (by omega), a32, M.1, r32 _ his]
  have IS' := istO_I gv W K'.WF RL
  have ec := AX.cg_congr (X := AX.mk 0 X.tp X.st 0 (-1) X.gr X.tr X.an) (sz := splZ sz k P) (due := fun j => T6.a 39 j = 1) (nw := fun j => T6.a 40 j = 1) (old := T6.a 32) IS' (fun j hj => (key j hj).1) (fun j hj => (key j hj).2.1) (fun j hj hn => (key j hj).2.2 (fun hh => hn ((key j hj).2.1.2 hh)))
  refine pt_fin (X := AX.mk 0 X.tp X.st 0 (-1) X.gr X.tr X.an) (Y := AX.mk 0 X.tp X.st 0 (-1) X.gr X.tr X.an) (v := fun Z => Z.s 250) (r := I (V.n + P.V.n - sz k)) (due := fun j => T6.a 39 j = 1) (nw := fun j => T6.a 40 j = 1) (old := T6.a 32) (sz := splZ sz k P) RY F26 (by decide) (by decide) (by decide) hg rfl K' hd0' (by show 0 ≤ 1000; omega) R.ok.b ((s6 _ (by decide)).trans RY.n) (fun k hk => absurd (show k < 0 from hk) (by omega)) ((s6 _ (by decide)).trans RY.st) ((s6 _ (by decide)).trans RY.fk) ((s6 _ (by decide)).trans RY.fp) J6 (fun j hj => iP_one (l6 j hj).1) (fun j hj => iP_one (l6 j hj).2) (fun j hj => ?_) (fun j _ => rfl) (fun j hj hh => ?_) (fun Z' J' _ => J'.n) ?_
  · rw [F6.a 41 (by decide), F5.a 41 (by decide)]; exact r41 j hj
  · have := (key j hj).2.1.1 hh
    exact (key j hj).1.2 (.inr (.inr (.inl this)))
  · rw [ec]
    intro Z' hZ'
    refine h Z' ?_
    rw [hg, ht] at hZ'
    exact hZ'
end
