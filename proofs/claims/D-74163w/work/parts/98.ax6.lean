/-! plain: ax6 -/
set_option maxRecDepth 100000
section
variable {T : TS} {X : AX} {x y z : Int32}

/-- a byte of a word. -/
def byW (w : Int32) (j : Nat) : Nat := w.toBitVec.toNat / 2 ^ (24 - 8 * j) % 2 ^ 8
theorem byW_lt (w : Int32) (j : Nat) : byW w j < 256 := Nat.mod_lt _ (by decide)
theorem byW_eq (w : Int32) {j : Nat} (hj : j < 4) : (jushr w (I (24 - 8 * j)) &&& 255) = I (byW w j) := by
  refine bt_ext (fun k hk => ?_)
  have hl := byW_lt w j
  rw [bt_and, bt_ushr _ (by omega), bt_255, bt_nat _ _ (by omega)]
  unfold byW
  rw [Nat.testBit_mod_two_pow, Nat.testBit_div_two_pow, Bool.and_comm]
  congr 1
  unfold bt
  rw [Nat.add_comm]
  exact BitVec.testBit_toNat _
def AX.wt (X : AX) (m : Nat) (tp : Nat → Nat) : AX := AX.mk m tp X.st X.fk X.fp X.gr X.tr X.an
def fdA (X : AX) (w : Int32) : AX := X.wt (X.m + 4) (fun k => if k < X.m then X.tp k else byW w (k - X.m))
theorem pt_come (R : TwRep T X) (hm : X.m + 4 ≤ 1000) {w : Int32} {Q : TS → Prop} (h : ∀ U, TwRep U (fdA X w) → Q U) : wp_X1_come w T Q := by
  unfold wp_X1_come
  refine tlp_cnt 4 (fun k s U => Tch [0] [205] T U ∧ U.s 205 = I (X.m + k) ∧ (∀ i, i < X.m + k → U.a 0 i = I (if i < X.m then X.tp i else byW w (i - X.m))) ∧ s = (if k < 4 then I (24 - 8 * k) else -8)) ⟨Tch.refl T, R.n, fun i hi => by rw [if_pos (by omega)]; exact R.tt i (by omega), by decide⟩ ?_
  intro k s U K hk hh hK
  obtain ⟨F, e1, e2, e3⟩ := hh
  rw [e3]
  by_cases e4 : k = 4
  · subst e4
    rw [if_neg (by decide)]
    refine brT (by decide) (h U ?_)
    refine ⟨⟨by show X.m + 4 ≤ 1000; omega, fun i => ?_, R.ok.g, R.ok.t⟩, e1, fun i hi => e2 i hi, (F.s _ (by decide)).trans R.st, (F.s _ (by decide)).trans R.fk, (F.s _ (by decide)).trans R.fp, by rw [F.a 5 (by decide)]; exact R.z5, fun hh => (F.s _ (by decide)).trans (R.g0 hh), fun A ind hh => ?_, fun hh => (F.s _ (by decide)).trans (R.t0 hh), fun V sz gv A ind h1 h2 => ?_, fun h1 h2 => (F.s _ (by decide)).trans (R.a0 h1 h2), fun h1 x y h2 => ?_⟩
    · show (if i < X.m then X.tp i else byW w (i - X.m)) < 256
      split
      · exact R.ok.b i
      · exact byW_lt _ _
    · obtain ⟨q1, ⟨c, q2⟩, q3⟩ := R.g1 A ind hh
      exact ⟨(F.s _ (by decide)).trans q1, ⟨c, q2.keepQ F (by decide)⟩, by rw [F.a 5 (by decide)]; exact q3⟩
    · obtain ⟨q1, O, q2⟩ := R.t1 V sz gv A ind h1 h2
      exact ⟨q1.keep F (by decide) (by decide), O, q2.keepQ F (by decide) (by decide)⟩
    · obtain ⟨q1, q2, q3⟩ := R.a1 h1 x y h2
      exact ⟨(F.s _ (by decide)).trans q1, (F.s _ (by decide)).trans q2, (F.s _ (by decide)).trans q3⟩
  · have hk4 : k < 4 := by omega
    rw [if_pos hk4]
    refine brF (I_nonneg (by omega)) ?_
    rw [e1]
    refine ⟨tix_I rfl (by show _ < 1000; omega) (by decide), ?_⟩
    rw [I_ni (by omega), byW_eq w hk4]
    intro U1 hU1 U2 hU2
    have F1 : Tch [0] [205] T U1 := by rw [hU1]; exact F.sa (by decide) _ _
    have e5 : U1.s 205 = I (X.m + k) := by rw [hU1]; exact e1
    rw [e5] at hU2
    have F2 : Tch [0] [205] T U2 := by rw [hU2]; exact F1.ss (by decide) _
    refine hK _ _ hk4 ⟨F2, by rw [hU2, ss_s, if_pos rfl]; exact I_add _ 1, fun i hi => ?_, ?_⟩
    · have e6 : U2.a 0 = updN (U.a 0) (X.m + k) (I (byW w k)) := by rw [hU2]; show U1.a 0 = _; rw [hU1, sa_at]
      rw [e6]
      by_cases ei : i = X.m + k
      · rw [ei, updN_same, if_neg (by omega), show X.m + k - X.m = k by omega]
      · rw [updN_ne _ _ ei]; exact e2 i (by omega)
    · rcases (show k = 0 ∨ k = 1 ∨ k = 2 ∨ k = 3 by omega) with e | e | e | e <;> subst e <;> decide

noncomputable def xFeed (X : AX) (a b c d e : Int32) : AX := if X.m + 20 ≤ 1000 then fdA (fdA (fdA (fdA (fdA X a) b) c) d) e else X
noncomputable def qFeed (X : AX) : Int32 := if X.m + 20 ≤ 1000 then I (X.m + 20) else -1
theorem fdA_m (X : AX) (w : Int32) : (fdA X w).m = X.m + 4 := rfl
theorem pt_feed (R : TwRep T X) {a b c d e : Int32} {Q : Int32 → TS → Prop} (h : ∀ U, TwRep U (xFeed X a b c d e) → Q (qFeed X) U) : wp_X1_feed a b c d e T Q := by
  unfold wp_X1_feed
  have hm := R.ok.m
  rw [R.n]
  unfold xFeed qFeed at h
  by_cases hh : X.m + 20 ≤ 1000
  · rw [if_pos hh, if_pos hh] at h
    refine brT (by (first | omega | ((try simp (disch := omega) only [L_le, le_L, L_lt, lt_L, eq_L, L_eq, I_le, I_lt, I_eq, I_ni, add_L, L_add, I_add, mul_L, L_mul, I_mul, sub_L, L_sub, I_sub, div_L, rem_L]); done) | ((try simp (disch := omega) only [L_le, le_L, L_lt, lt_L, eq_L, L_eq, I_le, I_lt, I_eq, I_ni, add_L, L_add, I_add, mul_L, L_mul, I_mul, sub_L, L_sub, I_sub, div_L, rem_L]); omega))) ?_
    refine pt_come R (by omega) ?_
    intro U1 R1
    have m1 := fdA_m X a
    refine pt_come R1 (by omega) ?_
    intro U2 R2
    have m2 := fdA_m (fdA X a) b
    refine pt_come R2 (by omega) ?_
    intro U3 R3
    have m3 := fdA_m (fdA (fdA X a) b) c
    refine pt_come R3 (by omega) ?_
    intro U4 R4
    have m4 := fdA_m (fdA (fdA (fdA X a) b) c) d
    refine pt_come R4 (by omega) ?_
    intro U5 R5
    have m5 := fdA_m (fdA (fdA (fdA (fdA X a) b) c) d) e
    have e9 : U5.s 205 = I (X.m + 20) := by rw [R5.n, m5, m4, m3, m2, m1]
    rw [e9]
    exact h U5 R5
  · rw [if_neg hh, if_neg hh] at h
    exact brF (by (first | omega | ((try simp (disch := omega) only [L_le, le_L, L_lt, lt_L, eq_L, L_eq, I_le, I_lt, I_eq, I_ni, add_L, L_add, I_add, mul_L, L_mul, I_mul, sub_L, L_sub, I_sub, div_L, rem_L]); done) | ((try simp (disch := omega) only [L_le, le_L, L_lt, lt_L, eq_L, L_eq, I_le, I_lt, I_eq, I_ni, add_L, L_add, I_add, mul_L, L_mul, I_mul, sub_L, L_sub, I_sub, div_L, rem_L]); omega))) (h T R)

noncomputable def qRun (X : AX) (x : Int32) : An :=
  cif (inR x 2) (match X.gr with
    | none => (-1, 3)
    | some q => match X.tr with
      | none => (-1, 3)
      | some r => match q.1.g.blkP q.2 with
        | some _ => (-1, 5)
        | none => if x = 0 then (I (sN (fun k => q.1.g.vs q.2 (r.1.sm q.1.g k)) r.1.n), 0) else (I (sN (fun k => cnP (fun o => q.1.g.tl (r.1.pd k) o) 32) r.1.n), 0)) (-1, 1)
theorem pt_run (R : TwRep T X) {Q : Int32 → TS → Prop} (h : ∀ U, TwRep U (X.ws (qRun X x).2) → Q (qRun X x).1 U) : wp_X1_run x T Q := by
  unfold wp_X1_run
  refine pt_isFromR (m := 2) (by decide) (by decide) ?_
  unfold qRun at h
  by_cases hr : inR x 2
  rotate_left
  · rw [iP_neg hr]
    rw [cif_neg hr] at h
    exact brT rfl (pt_refuse R h)
  rw [iP_pos hr]
  rw [cif_pos hr] at h
  refine brF (by decide) ?_
  refine pt_hasTree R ?_
  cases ht : X.tr with
  | none =>
    rw [ht] at h
    rw [iP_neg (fun hh => hh rfl)]
    refine brT rfl (pt_refuse R ?_)
    cases hg : X.gr with
    | none => rw [hg] at h; exact h
    | some q => rw [hg] at h; exact h
  | some r =>
    obtain ⟨V, sz, gv⟩ := r
    obtain ⟨A, ind, hg, K, IS, q1, q2, q3, q4, q5⟩ := R.tt1 ht
    rw [iP_pos (by simp)]
    rw [hg, ht] at h
    dsimp only at h
    refine brF (by decide) ?_
    obtain ⟨W, RL, hI, s, g, h5⟩ := R.gg hg
    refine pt_block W g rfl h5 hI ?_
    intro U F
    have RU := R.keep F (by decide) (by decide)
    cases hb : A.g.blkP ind with
    | some p =>
      rw [hb] at h
      have hp := blkP_lt hb
      have hP := W.nP
      exact brF (I_neg1_ne (by omega)) (pt_refuse RU h)
    | none =>
      rw [hb] at h
      dsimp only at h
      refine brT rfl ?_
      obtain ⟨_, _, _, sU, gU, h5U⟩ := RU.gg hg
      refine pt_laysAllVisits W gU rfl (by rw [h5U]; exact hI) ?_
      intro Z FZ hv
      rw [h5U] at hv
      have RZ := RU.keep FZ (by decide) (by decide)
      obtain ⟨_, _, _, sZ, gZ, h5Z⟩ := RZ.gg hg
      obtain ⟨A', ind', hg', _, _, z1, _, z3, _, _⟩ := RZ.tt1 ht
      rw [hg] at hg'
      have e1 := (Prod.mk.inj (Option.some.inj hg')).1
      subst e1
      have J := z1.J
      have hP := W.nP
      have vb : ∀ k, k < V.n → A.g.VB ind (V.sm A.g k) := fun k hk => hI.vb W (K.WF.smS W hk) (noBlk W hb (K.WF.pd k hk) (Nat.zero_le _))
      have hr2 : x = 0 ∨ x = 1 := by
        obtain ⟨j, hj, e⟩ := hr
        rcases (show j = 0 ∨ j = 1 by omega) with e' | e' <;> subst e'
        · exact .inl e
        · exact .inr e
      refine tlp_cnt V.n (fun k s U => U = Z ∧ s = (if x = 0 then (I (sN (fun k => A.g.vs ind (V.sm A.g k)) k), I k) else (I (sN (fun k => cnP (fun o => A.g.tl (V.pd k) o) 32) k), I k))) ⟨rfl, by rcases hr2 with e | e <;> subst e <;> rfl⟩ ?_
      intro k s U' KK hk hh hK
      obtain ⟨hU, hs⟩ := hh
      rw [hU, z3, hs]
      rcases hr2 with e | e
      · subst e
        rw [if_pos rfl] at h ⊢
        dsimp only
        by_cases ek : k = V.n
        · subst ek
          exact brT (by (first | omega | ((try simp (disch := omega) only [L_le, le_L, L_lt, lt_L, eq_L, L_eq, I_le, I_lt, I_eq, I_ni, add_L, L_add, I_add, mul_L, L_mul, I_mul, sub_L, L_sub, I_sub, div_L, rem_L]); done) | ((try simp (disch := omega) only [L_le, le_L, L_lt, lt_L, eq_L, L_eq, I_le, I_lt, I_eq, I_ni, add_L, L_add, I_add, mul_L, L_mul, I_mul, sub_L, L_sub, I_sub, div_L, rem_L]); omega))) (pt_gives RZ h)
        have hk' : k < V.n := by omega
        refine brF (by (first | omega | ((try simp (disch := omega) only [L_le, le_L, L_lt, lt_L, eq_L, L_eq, I_le, I_lt, I_eq, I_ni, add_L, L_add, I_add, mul_L, L_mul, I_mul, sub_L, L_sub, I_sub, div_L, rem_L]); done) | ((try simp (disch := omega) only [L_le, le_L, L_lt, lt_L, eq_L, L_eq, I_le, I_lt, I_eq, I_ni, add_L, L_add, I_add, mul_L, L_mul, I_mul, sub_L, L_sub, I_sub, div_L, rem_L]); omega))) ?_
        refine ⟨fun v U => v = I (A.g.vs ind (V.sm A.g k)) ∧ U = Z, brT rfl ?_, ?_⟩
        · refine pt_symbolOf W K.WF J hk' ?_
          have hs8 := K.WF.smS W hk'
          have hS := W.nS
          refine ⟨tix_I rfl (by show _ < 8; omega) (by decide), ?_⟩
          rw [I_ni (by omega)]
          exact ⟨(hv _ hs8 (noBlk W hb (K.WF.pd k hk') (Nat.zero_le _))).1, rfl⟩
        · intro v U2 hh2
          obtain ⟨e1, e2⟩ := hh2
          rw [e1, e2]
          refine tlp_cnt 0 (fun _ s U => U = Z ∧ s = (I (sN (fun k => A.g.vs ind (V.sm A.g k)) (k + 1)), 0)) ⟨rfl, by rw [I_add]; rfl⟩ ?_
          intro _ s3 U3 K3 _ hh3 _
          obtain ⟨e3, e4⟩ := hh3
          rw [e3, e4]
          refine brF (fun hh => absurd hh.2 (by decide)) ?_
          (try simp (disch := omega) only [L_le, le_L, L_lt, lt_L, eq_L, L_eq, I_le, I_lt, I_eq, I_ni, add_L, L_add, I_add, mul_L, L_mul, I_mul, sub_L, L_sub, I_sub, div_L, rem_L])
          refine hK _ _ hk' ⟨rfl, rfl⟩
      · subst e
        rw [if_neg (by decide)] at h ⊢
        dsimp only
        by_cases ek : k = V.n
        · subst ek
          exact brT (by (first | omega | ((try simp (disch := omega) only [L_le, le_L, L_lt, lt_L, eq_L, L_eq, I_le, I_lt, I_eq, I_ni, add_L, L_add, I_add, mul_L, L_mul, I_mul, sub_L, L_sub, I_sub, div_L, rem_L]); done) | ((try simp (disch := omega) only [L_le, le_L, L_lt, lt_L, eq_L, L_eq, I_le, I_lt, I_eq, I_ni, add_L, L_add, I_add, mul_L, L_mul, I_mul, sub_L, L_sub, I_sub, div_L, rem_L]); omega))) (pt_gives RZ h)
        have hk' : k < V.n := by omega
        have hpd := K.WF.pd k hk'
        refine brF (by (first | omega | ((try simp (disch := omega) only [L_le, le_L, L_lt, lt_L, eq_L, L_eq, I_le, I_lt, I_eq, I_ni, add_L, L_add, I_add, mul_L, L_mul, I_mul, sub_L, L_sub, I_sub, div_L, rem_L]); done) | ((try simp (disch := omega) only [L_le, le_L, L_lt, lt_L, eq_L, L_eq, I_le, I_lt, I_eq, I_ni, add_L, L_add, I_add, mul_L, L_mul, I_mul, sub_L, L_sub, I_sub, div_L, rem_L]); omega))) ?_
        refine ⟨fun v U => v = 0 ∧ U = Z, brF (by decide) ⟨rfl, rfl⟩, ?_⟩
        intro v U2 hh2
        obtain ⟨e1, e2⟩ := hh2
        rw [e1, e2]
        refine tlp_cnt 32 (fun o s U => U = Z ∧ s = (I (sN (fun k => cnP (fun o => A.g.tl (V.pd k) o) 32) k + cnP (fun o => A.g.tl (V.pd k) o) o), I o)) ⟨rfl, by rw [cnP_zero]; exact congrArg (fun z => (z, I 0)) (Int32.add_zero _)⟩ ?_
        intro o s3 U3 K3 ho hh3 hK3
        obtain ⟨e3, e4⟩ := hh3
        rw [e3, e4]
        dsimp only
        by_cases eo : o = 32
        · subst eo
          refine brF (fun hh => hh.1 (by (first | omega | ((try simp (disch := omega) only [L_le, le_L, L_lt, lt_L, eq_L, L_eq, I_le, I_lt, I_eq, I_ni, add_L, L_add, I_add, mul_L, L_mul, I_mul, sub_L, L_sub, I_sub, div_L, rem_L]); done) | ((try simp (disch := omega) only [L_le, le_L, L_lt, lt_L, eq_L, L_eq, I_le, I_lt, I_eq, I_ni, add_L, L_add, I_add, mul_L, L_mul, I_mul, sub_L, L_sub, I_sub, div_L, rem_L]); omega)))) ?_
          (try simp (disch := omega) only [L_le, le_L, L_lt, lt_L, eq_L, L_eq, I_le, I_lt, I_eq, I_ni, add_L, L_add, I_add, mul_L, L_mul, I_mul, sub_L, L_sub, I_sub, div_L, rem_L])
          exact hK _ _ hk' ⟨rfl, by rw [if_neg (by decide)]; rfl⟩
        have ho' : o < 32 := by omega
        refine brT ⟨fun hh => by have h9 : 32 ≤ o := (L_le 32 (by decide) (by omega)).1 hh; omega, rfl⟩ ?_
        refine ⟨tix_I rfl (by show _ < 40; omega) (by decide), ?_⟩
        rw [I_ni (show k < 2147483648 by omega), J.pd k hk']
        refine pt_isOcc W gZ rfl sZ hpd (by omega) ?_
        by_cases hoc : A.g.oc (V.pd k) o
        · rw [if_pos hoc]
          refine brF (by decide) ⟨tix_I rfl (by show _ < 40; omega) (by decide), ?_⟩
          rw [J.pd k hk']
          refine pt_canTell W (.inl rfl) gZ rfl hpd hoc ?_
          intro m hm
          by_cases htl : A.g.tl (V.pd k) o
          · rw [if_pos htl, if_neg (by decide)] at hm
            rw [hm]
            (try simp (disch := omega) only [L_le, le_L, L_lt, lt_L, eq_L, L_eq, I_le, I_lt, I_eq, I_ni, add_L, L_add, I_add, mul_L, L_mul, I_mul, sub_L, L_sub, I_sub, div_L, rem_L])
            exact hK3 _ _ ho' ⟨rfl, by rw [cnP_pos (P := fun o => A.g.tl (V.pd k) o) htl]; rfl⟩
          · rw [if_neg htl, if_pos rfl] at hm
            rw [hm, Int32.add_zero]
            (try simp (disch := omega) only [L_le, le_L, L_lt, lt_L, eq_L, L_eq, I_le, I_lt, I_eq, I_ni, add_L, L_add, I_add, mul_L, L_mul, I_mul, sub_L, L_sub, I_sub, div_L, rem_L])
            exact hK3 _ _ ho' ⟨rfl, by rw [cnP_neg (P := fun o => A.g.tl (V.pd k) o) htl]⟩
        · rw [if_neg hoc]
          refine brT rfl ?_
          rw [Int32.add_zero]
          (try simp (disch := omega) only [L_le, le_L, L_lt, lt_L, eq_L, L_eq, I_le, I_lt, I_eq, I_ni, add_L, L_add, I_add, mul_L, L_mul, I_mul, sub_L, L_sub, I_sub, div_L, rem_L])
          exact hK3 _ _ ho' ⟨rfl, by rw [cnP_neg (P := fun o => A.g.tl (V.pd k) o) (fun hh => hoc hh.1)]⟩
end
