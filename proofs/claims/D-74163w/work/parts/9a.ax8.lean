/-! plain: ax8 -/
set_option maxRecDepth 100000
section
variable {T U : TS} {X : AX} {x y z : Int32} {A : PG} {c : Nat} {G : Gv} {V : Tv} {gv : Nat → Int32} {S : Ist} {tp : Nat → Nat} {n : Nat} {sz : Nat → Nat} {ind : Nat → Int32}

/-- another tree. -/
theorem TwRep.mkT {L M N : List Nat} (R : TwRep T X) (F : Tcw L M N T U) (hA : ∀ j, j ∈ [1, 5] → j ∉ L) (hM : 209 ∉ M) (hN : 3 ∉ N) {Y : AX} (hg : X.gr = some (A, ind)) (eg : Y.gr = X.gr) (et : Y.tr = some (V, sz, gv)) (K : trK A V sz) (hd : V.dp 0 = 0) (hm : Y.m ≤ 1000) (hb : ∀ k, Y.tp k < 256)
    (h5 : U.s 205 = I Y.m) (h6 : ∀ k, k < Y.m → U.a 0 k = I (Y.tp k)) (h7 : U.s 206 = Y.st) (h8 : U.s 207 = Y.fk) (h9 : U.s 208 = Y.fp) (q1 : TwX U A.g V gv (istO A.g V gv)) {O : List Nat} (q2 : TwE U (istO A.g V gv) O)
    (a0 : Y.an = none → U.s 253 = 0) (a1 : ∀ a b, Y.an = some (a, b) → U.s 253 = 1 ∧ U.s 254 = I a ∧ U.s 255 = I b) : TwRep U Y := by
  have s9 : U.s 209 = T.s 209 := F.s _ hM
  refine ⟨⟨hm, hb, by rw [eg]; exact R.ok.g, fun V' sz' gv' e => ?_⟩, h5, h6, h7, h8, h9, by rw [F.a 5 (hA _ (by decide))]; exact R.z5, fun h => s9.trans (R.g0 (eg ▸ h)), fun A ind h => ?_, fun h => absurd (et.symm.trans h) (by simp), fun V' sz' gv' A' ind' h1 h2 => ?_, fun _ h => a0 h, fun _ a b h => a1 a b h⟩
  · rw [et] at e
    obtain ⟨e1, e2, e3⟩ := (by simpa using Option.some.inj e : V = V' ∧ sz = sz' ∧ gv = gv')
    subst e1
    subst e2
    exact ⟨A, ind, by rw [eg]; exact hg, K, hd⟩
  · rw [eg] at h
    obtain ⟨q1, ⟨c, q2⟩, q3⟩ := R.g1 A ind h
    exact ⟨s9.trans q1, ⟨c, q2.keepW F (hA _ (by decide)) hN⟩, by rw [F.a 5 (hA _ (by decide))]; exact q3⟩
  · rw [et] at h1
    obtain ⟨e1, e2, e3⟩ := (by simpa using Option.some.inj h1 : V = V' ∧ sz = sz' ∧ gv = gv')
    rw [eg, hg] at h2
    have e4 := (Prod.mk.inj (Option.some.inj h2)).1
    subst e1
    subst e3
    subst e4
    exact ⟨q1, O, q2⟩

theorem pt_readTree (R : TwRep T X) (hg : X.gr = some (A, ind)) {k : Nat} (hk : k ≤ X.m) {oth dp : Nat} {need : Option Nat} (ho : T.s 252 = I oth) (h40 : oth ≤ 40) (hd : dp ≤ 12) (hn : ∀ s, need = some s → s < A.g.nS) {Q : Int32 → TS → Prop}
    (h1 : ∀ U P, pTr X.tp k A oth need dp = .ok P → Tcw [22, 23, 24] [205, 210, 211, 212, 213, 214, 215, 216, 217, 251] [] T U → TwD U P → U.s 216 = 0 → U.s 217 = -1 → U.s 205 = 0 → Q 1 U)
    (h2 : ∀ U f, pTr X.tp k A oth need dp = .error f → Tcw [22, 23, 24] [205, 210, 211, 212, 213, 214, 215, 216, 217, 251] [] T U → TwF U f → U.s 205 = 0 → Q 0 U) : wp_X1_readTree (I k) (oI need) (I (dp + 1)) T Q := by
  obtain ⟨W, _, _, _, g, _⟩ := R.gg hg
  obtain ⟨_, ⟨c, Y⟩, _⟩ := R.g1 A ind hg
  unfold wp_X1_readTree
  refine pt_begins R hk ?_
  intro T1 F1 K1 z1 T3 h3
  have F3 : Tcw [] [251] [] T1 T3 := by rw [h3]; exact (Tcw.refl T1).ss (by decide) _
  have FT : Tcw [22, 23, 24] [205, 210, 211, 212, 213, 214, 215, 216, 217, 251] [] T T3 := (F1.mono (by decide) (by decide) (by decide)).trans (F3.mono (by decide) (by decide) (by decide))
  have K3 := K1.keep F3 (by rw [h3]; rfl) (by decide) (by decide)
  have z3 : T3.s 205 = 0 := (F3.s _ (by decide)).trans z1
  have J3 : TwJ T3 A := ⟨by rw [FT.a 1 (by decide)]; exact Y.g, fun p hp => by unfold TwN; rw [FT.l 3 (by decide)]; exact Y.pn p hp⟩
  have D3 : TwD T3 PT.nil := ⟨by rw [h3]; rfl, fun k hk => absurd hk (Nat.not_lt_zero k), fun k hk => absurd hk (Nat.not_lt_zero k), fun k hk => absurd hk (Nat.not_lt_zero k)⟩
  have o3 : T3.s 252 = I oth := (FT.s _ (by decide)).trans ho
  generalize hR : pTr X.tp k A oth need dp = RR at h1 h2
  unfold pTr at hR
  refine pt_readNode W 16 need dp none 0 PT.nil _ T3 _ (by omega) hd hn J3 o3 (by show oth + 0 ≤ 40; omega) D3 K3 ?_ ?_
  · intro U P t e F D K
    rw [e] at hR
    dsimp only at hR
    have FU := FT.trans (F.mono (by decide) (by decide) (by decide))
    have zU : U.s 205 = 0 := (F.s _ (by decide)).trans z3
    refine brF (by decide) ?_
    by_cases hkd : t.kd = 0
    · rw [if_pos hkd] at hR
      exact brT (by rw [K.kd, hkd]; rfl) (h1 U P hR.symm FU D K.p.q0 K.p.q1 zU)
    · rw [if_neg hkd] at hR
      have h5 := K.k5
      refine brF (fun hh => hkd ((I0 (by omega)).1 (by rw [← K.kd]; exact hh))) ?_
      refine pt_bad (k := 2) K (by decide) ?_
      intro V FV f m hm
      rw [if_pos rfl] at hm
      rw [hm]
      exact ⟨.inl rfl, h2 V _ hR.symm (FU.trans (FV.mono (by decide) (by decide) (by decide))) f ((FV.s _ (by decide)).trans zU)⟩
  · intro U f e F f'
    rw [e] at hR
    exact brT rfl (h2 U f hR.symm (FT.trans (F.mono (by decide) (by decide) (by decide))) f' ((F.s _ (by decide)).trans z3))

noncomputable def xTree (X : AX) (x : Int32) : AX := cif (inR x (X.m + 1)) (match X.gr with
  | none => X.ws 2
  | some q => match pTr X.tp (ni x) q.1 0 none 0 with
    | .error f => AX.mk 0 X.tp 9 (I f.1) (I f.2) X.gr X.tr X.an
    | .ok P => AX.mk 0 X.tp 0 0 (-1) X.gr (some (P.V, P.sz, fun _ => 0)) none) (X.ws 1)
noncomputable def qTree (X : AX) (x : Int32) : Int32 := cif (inR x (X.m + 1)) (match X.gr with
  | none => -1
  | some q => match pTr X.tp (ni x) q.1 0 none 0 with
    | .error _ => -1
    | .ok P => I P.V.n) (-1)
theorem pt_tree (R : TwRep T X) {Q : Int32 → TS → Prop} (h : ∀ U, TwRep U (xTree X x) → Q (qTree X x) U) : wp_X1_tree x T Q := by
  have hm := R.ok.m
  unfold wp_X1_tree
  refine pt_isFromR (m := X.m + 1) (by omega) (by rw [R.n]; exact (I_sub (a := X.m + 1) (b := 1) (by omega)).symm) ?_
  unfold xTree qTree at h
  by_cases hr : inR x (X.m + 1)
  rotate_left
  · rw [iP_neg hr]
    rw [cif_neg hr, cif_neg hr] at h
    exact brT rfl (pt_refuse R h)
  rw [iP_pos hr]
  rw [cif_pos hr, cif_pos hr] at h
  refine brF (by decide) ?_
  obtain ⟨k, hk, e⟩ := hr
  subst e
  rw [I_ni (by omega)] at h
  cases hg : X.gr with
  | none =>
    rw [hg] at h
    exact brT (R.g0 hg) (pt_refuse R h)
  | some q =>
    obtain ⟨A, ind⟩ := q
    rw [hg] at h
    dsimp only at h
    obtain ⟨W, RL, _, s, g, _⟩ := R.gg hg
    obtain ⟨_, ⟨c, Y⟩, _⟩ := R.g1 A ind hg
    refine brF (by rw [s]; decide) ?_
    intro T5 h5
    have F5 : Tch [] [252] T T5 := by rw [h5]; exact (Tch.refl T).ss (by decide) _
    have F5' : Tcw [] [252] [] T T5 := by rw [h5]; exact (Tcw.refl T).ss (by decide) _
    have R5 := R.keep F5 (by decide) (by decide)
    refine pt_readTree (need := none) (dp := 0) (oth := 0) R5 hg (by omega) (by rw [h5]; rfl) (by omega) (by omega) (fun s e => absurd e (by simp)) ?_ ?_
    · intro U P e FU D z6 z7 z5
      rw [e] at h
      dsimp only at h
      obtain ⟨K, h40, _, hd0⟩ := pTr_ok W (by omega) e
      intro U1 hU1 U2 hU2 m3 hm3
      rw [z6] at hU1
      have e217 : U1.s 217 = -1 := by rw [hU1]; exact z7
      rw [e217] at hU2
      rw [if_neg (by decide)] at hm3
      rw [hm3]
      refine brT (by decide) ?_
      have FU2 : Tcw [] [207, 208] [] U U2 := by rw [hU2, hU1]; exact ((Tcw.refl U).ss (by decide) _).ss (by decide) _
      intro U3 hU3
      have e251 : U2.s 251 = I P.V.n := (FU2.s _ (by decide)).trans D.m
      rw [e251] at hU3
      have F3 : Tcw [] [250] [] U2 U3 := by rw [hU3]; exact (Tcw.refl U2).ss (by decide) _
      have z3 : U3.s 250 = I P.V.n := by rw [hU3]; rfl
      refine tlp_cnt P.V.n (fun i s W => s = I i ∧ Tcw [19, 20, 21] [] [] U3 W ∧ ∀ j, j < i → W.a 19 j = I (P.V.pd j) ∧ W.a 20 j = P.V.nu j ∧ W.a 21 j = oI (P.V.pa j)) ⟨rfl, Tcw.refl _, fun j hj => absurd hj (by omega)⟩ ?_
      intro i s W1 KK hi hh hK
      obtain ⟨es, FW, hc⟩ := hh
      rw [es, FW.s 250 (by decide), z3]
      by_cases ei : i = P.V.n
      rotate_left
      · have hi' : i < P.V.n := by omega
        have d1 : W1.a 22 i = I (P.V.pd i) := by rw [FW.a 22 (by decide), F3.a 22 (by decide), FU2.a 22 (by decide)]; exact D.pd i hi'
        have d2 : W1.a 23 i = P.V.nu i := by rw [FW.a 23 (by decide), F3.a 23 (by decide), FU2.a 23 (by decide)]; exact D.nu i hi'
        have d3 : W1.a 24 i = oI (P.V.pa i) := by rw [FW.a 24 (by decide), F3.a 24 (by decide), FU2.a 24 (by decide)]; exact D.pa i hi'
        refine brF (by (first | omega | ((try simp (disch := omega) only [L_le, le_L, L_lt, lt_L, eq_L, L_eq, I_le, I_lt, I_eq, I_ni, add_L, L_add, I_add, mul_L, L_mul, I_mul, sub_L, L_sub, I_sub, div_L, rem_L]); done) | ((try simp (disch := omega) only [L_le, le_L, L_lt, lt_L, eq_L, L_eq, I_le, I_lt, I_eq, I_ni, add_L, L_add, I_add, mul_L, L_mul, I_mul, sub_L, L_sub, I_sub, div_L, rem_L]); omega))) ⟨tix_I rfl (by show _ < 40; omega) (by decide), tix_I rfl (by show _ < 40; omega) (by decide), ?_⟩
        rw [I_ni (by omega), d1]
        intro W2 hW2
        refine ⟨tix_I rfl (by show _ < 40; omega) (by decide), tix_I rfl (by show _ < 40; omega) (by decide), ?_⟩
        rw [show W2.a 23 i = P.V.nu i by rw [hW2, sa_off _ (by decide)]; exact d2]
        intro W3 hW3
        refine ⟨tix_I rfl (by show _ < 40; omega) (by decide), tix_I rfl (by show _ < 40; omega) (by decide), ?_⟩
        rw [show W3.a 24 i = oI (P.V.pa i) by rw [hW3, sa_off _ (by decide), hW2, sa_off _ (by decide)]; exact d3]
        intro W4 hW4
        (try simp (disch := omega) only [L_le, le_L, L_lt, lt_L, eq_L, L_eq, I_le, I_lt, I_eq, I_ni, add_L, L_add, I_add, mul_L, L_mul, I_mul, sub_L, L_sub, I_sub, div_L, rem_L])
        refine hK _ _ hi' ⟨rfl, by rw [hW4, hW3, hW2]; exact ((FW.sa (by decide) _ _).sa (by decide) _ _).sa (by decide) _ _, fun j hj => ?_⟩
        have e1 : W4.a 19 = updN (W1.a 19) i (I (P.V.pd i)) := by rw [hW4, sa_off _ (by decide), hW3, sa_off _ (by decide), hW2, sa_at]
        have e2 : W4.a 20 = updN (W1.a 20) i (P.V.nu i) := by rw [hW4, sa_off _ (by decide), hW3, sa_at, hW2, sa_off _ (by decide)]
        have e3 : W4.a 21 = updN (W1.a 21) i (oI (P.V.pa i)) := by rw [hW4, sa_at, hW3, sa_off _ (by decide), hW2, sa_off _ (by decide)]
        rw [e1, e2, e3]
        by_cases ej : j = i
        · rw [ej, updN_same, updN_same, updN_same]; exact ⟨rfl, rfl, rfl⟩
        · rw [updN_ne _ _ ej, updN_ne _ _ ej, updN_ne _ _ ej]; exact hc j (by omega)
      subst ei
      refine brT (by (first | omega | ((try simp (disch := omega) only [L_le, le_L, L_lt, lt_L, eq_L, L_eq, I_le, I_lt, I_eq, I_ni, add_L, L_add, I_add, mul_L, L_mul, I_mul, sub_L, L_sub, I_sub, div_L, rem_L]); done) | ((try simp (disch := omega) only [L_le, le_L, L_lt, lt_L, eq_L, L_eq, I_le, I_lt, I_eq, I_ni, add_L, L_add, I_add, mul_L, L_mul, I_mul, sub_L, L_sub, I_sub, div_L, rem_L]); omega))) ?_
      refine tlp_cnt 4 (fun i s W => s = I i ∧ Tcw [25] [] [] W1 W ∧ ∀ j, j < i → W.a 25 j = 0) ⟨rfl, Tcw.refl _, fun j hj => absurd hj (by omega)⟩ ?_
      intro i s W2 KK hi hh hK
      obtain ⟨es, FW2, hc2⟩ := hh
      rw [es]
      by_cases ei : i = 4
      rotate_left
      · have hi' : i < 4 := by omega
        refine brF (by (first | omega | ((try simp (disch := omega) only [L_le, le_L, L_lt, lt_L, eq_L, L_eq, I_le, I_lt, I_eq, I_ni, add_L, L_add, I_add, mul_L, L_mul, I_mul, sub_L, L_sub, I_sub, div_L, rem_L]); done) | ((try simp (disch := omega) only [L_le, le_L, L_lt, lt_L, eq_L, L_eq, I_le, I_lt, I_eq, I_ni, add_L, L_add, I_add, mul_L, L_mul, I_mul, sub_L, L_sub, I_sub, div_L, rem_L]); omega))) ⟨tix_I rfl (by show _ < 4; omega) (by decide), ?_⟩
        rw [I_ni (by omega)]
        intro W3 hW3
        (try simp (disch := omega) only [L_le, le_L, L_lt, lt_L, eq_L, L_eq, I_le, I_lt, I_eq, I_ni, add_L, L_add, I_add, mul_L, L_mul, I_mul, sub_L, L_sub, I_sub, div_L, rem_L])
        refine hK _ _ hi' ⟨rfl, by rw [hW3]; exact FW2.sa (by decide) _ _, fun j hj => ?_⟩
        rw [hW3, sa_at]
        by_cases ej : j = i
        · rw [ej, updN_same]
        · rw [updN_ne _ _ ej]; exact hc2 j (by omega)
      subst ei
      refine brT (by (first | omega | ((try simp (disch := omega) only [L_le, le_L, L_lt, lt_L, eq_L, L_eq, I_le, I_lt, I_eq, I_ni, add_L, L_add, I_add, mul_L, L_mul, I_mul, sub_L, L_sub, I_sub, div_L, rem_L]); done) | ((try simp (disch := omega) only [L_le, le_L, L_lt, lt_L, eq_L, L_eq, I_le, I_lt, I_eq, I_ni, add_L, L_add, I_add, mul_L, L_mul, I_mul, sub_L, L_sub, I_sub, div_L, rem_L]); omega))) ?_
      intro W3 hW3
      have F33 : Tcw [] [253] [] W2 W3 := by rw [hW3]; exact (Tcw.refl W2).ss (by decide) _
      have all : Tcw [19, 20, 21, 22, 23, 24, 25] [205, 207, 208, 210, 211, 212, 213, 214, 215, 216, 217, 250, 251, 252, 253] [] T W3 := ((((((F5'.mono (by decide) (by decide) (by decide)).trans (FU.mono (by decide) (by decide) (by decide))).trans (FU2.mono (by decide) (by decide) (by decide))).trans (F3.mono (by decide) (by decide) (by decide))).trans (FW.mono (by decide) (by decide) (by decide))).trans (FW2.mono (by decide) (by decide) (by decide))).trans (F33.mono (by decide) (by decide) (by decide))
      have J : TwI W3 A.g P.V (fun _ => 0) := by
        refine ⟨by rw [all.a 1 (by decide)]; exact Y.g, by rw [all.a 1 (by decide)]; exact Y.k, ?_, ?_, ?_, ?_, ?_⟩
        · rw [F33.s _ (by decide), FW2.s _ (by decide), FW.s _ (by decide)]; exact z3
        · intro j hj; rw [F33.a _ (by decide), FW2.a _ (by decide)]; exact (hc j hj).1
        · intro j hj; rw [F33.a _ (by decide), FW2.a _ (by decide)]; exact (hc j hj).2.1
        · intro j hj; rw [F33.a _ (by decide), FW2.a _ (by decide)]; exact (hc j hj).2.2
        · intro j hj; rw [F33.a _ (by decide)]; exact hc2 j hj
      refine pt_settles W K.PO RL (istO_I (fun _ => 0) W K.WF RL) K.WF J ?_
      intro W4 O F4 x4 Z4
      have F4' : Tcw [26, 27, 28, 29, 30, 31, 34, 35, 36, 37, 38, 42] [272] [] W3 W4 := ⟨F4.a, F4.s, fun j _ => by rw [F4.l]⟩
      have a4 : Tcw [19, 20, 21, 22, 23, 24, 25, 26, 27, 28, 29, 30, 31, 34, 35, 36, 37, 38, 42] [205, 207, 208, 210, 211, 212, 213, 214, 215, 216, 217, 250, 251, 252, 253, 272] [] T W4 := (all.mono (by decide) (by decide) (by decide)).trans (F4'.mono (by decide) (by decide) (by decide))
      have s4 : ∀ j, j ∈ [205, 207, 208] → W4.s j = U2.s j := fun j hj => by
        rw [F4'.s j (by revert j; decide), F33.s j (by revert j; decide), FW2.s j (by revert j; decide), FW.s j (by revert j; decide), F3.s j (by revert j; decide)]
      rw [x4.J.n]
      refine pt_gives (X := AX.mk 0 X.tp X.st 0 (-1) X.gr (some (P.V, P.sz, fun _ => 0)) none) ?_ (by rw [hg]; exact h)
      refine R.mkT a4 (by decide) (by decide) (by decide) hg rfl rfl K hd0 (by show 0 ≤ 1000; omega) R.ok.b ?_ (fun k hk => absurd (show k < 0 from hk) (by omega)) ((a4.s _ (by decide)).trans R.st) ?_ ?_ x4 Z4 (fun _ => ?_) (fun a b e => absurd (show (none : Option (Nat × Nat)) = some (a, b) from e) (by simp))
      · rw [s4 _ (by decide), FU2.s _ (by decide)]; exact z5
      · rw [s4 _ (by decide), hU2, hU1]; rfl
      · rw [s4 _ (by decide), hU2]; rfl
      · rw [F4'.s _ (by decide), hW3]; rfl
    · intro U f e FU f' z5
      rw [e] at h
      dsimp only at h
      intro U1 hU1 U2 hU2 m3 hm3
      rw [f'.1] at hU1
      have e217 : U1.s 217 = I f.2 := by rw [hU1]; exact f'.2
      rw [e217] at hU2
      rw [if_pos rfl] at hm3
      rw [hm3]
      refine brF (by decide) ?_
      have FU2 : Tcw [] [207, 208] [] U U2 := by rw [hU2, hU1]; exact ((Tcw.refl U).ss (by decide) _).ss (by decide) _
      have all : Tcw [22, 23, 24] [205, 207, 208, 210, 211, 212, 213, 214, 215, 216, 217, 251, 252] [] T U2 := ((F5'.mono (by decide) (by decide) (by decide)).trans (FU.mono (by decide) (by decide) (by decide))).trans (FU2.mono (by decide) (by decide) (by decide))
      refine pt_refuse (X := AX.mk 0 X.tp X.st (I f.1) (I f.2) X.gr X.tr X.an) ?_ (by rw [hg]; exact h)
      exact R.kw all (by decide) (by decide) (by decide) rfl rfl rfl (by show 0 ≤ 1000; omega) R.ok.b ((FU2.s _ (by decide)).trans z5) (fun k hk => absurd (show k < 0 from hk) (by omega)) ((all.s _ (by decide)).trans R.st) (by rw [hU2, hU1]; rfl) (by rw [hU2]; rfl)
end
