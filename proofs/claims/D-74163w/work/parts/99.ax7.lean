/-! plain: ax7 -/
set_option maxRecDepth 100000
section
variable {T U : TS} {X : AX} {x y z : Int32} {A : PG} {c : Nat} {G : Gv} {V : Tv} {gv : Nat → Int32} {S : Ist} {tp : Nat → Nat} {n : Nat}

theorem Tcw.tch {L M N : List Nat} (F : Tcw L M N T U) : Tch L M T (U.s, T.w, U.a, T.l) := ⟨F.a, F.s, rfl, rfl⟩
theorem TwX.of (q : TwX T G V gv S) (hs : U.s = T.s) (ha : U.a = T.a) : TwX U G V gv S :=
  ⟨⟨by rw [ha]; exact q.J.A, by rw [ha]; exact q.J.C, by rw [hs]; exact q.J.n, by rw [ha]; exact q.J.pd, by rw [ha]; exact q.J.nu, by rw [ha]; exact q.J.pa, by rw [ha]; exact q.J.gi⟩, ⟨by rw [ha]; exact q.B.th, by rw [ha]; exact q.B.ba, by rw [ha]; exact q.B.oc⟩, by rw [ha]; exact q.N, by rw [ha]; exact q.M, by unfold TwK; rw [ha]; exact q.K⟩
theorem TwE.of {O : List Nat} (q : TwE T S O) (hs : U.s = T.s) (ha : U.a = T.a) : TwE U S O :=
  ⟨by rw [ha]; exact q.v, by rw [ha]; exact q.t, by rw [hs]; exact q.n, by rw [ha]; exact q.o, q.k, q.c, q.all⟩
theorem TwG.keepW {L M N : List Nat} (Y : TwG T 1 3 A c) (F : Tcw L M N T U) (h1 : 1 ∉ L) (h3 : 3 ∉ N) : TwG U 1 3 A c :=
  ⟨by rw [F.a 1 h1]; exact Y.g, by rw [F.a 1 h1]; exact Y.k, by rw [F.a 1 h1]; exact Y.z, by rw [F.a 1 h1]; exact Y.m, fun s hs => by unfold TwN; rw [F.l 3 h3]; exact Y.sn s hs, fun s hs => by unfold TwN; rw [F.l 3 h3]; exact Y.pn s hs, fun s a hs ha => by unfold TwN; rw [F.l 3 h3]; exact Y.an s a hs ha, Y.w, Y.rl, by rw [F.a 1 h1]; exact Y.cb⟩
/-- what is known of grammar and tree stays. -/
theorem TwRep.kw {L M N : List Nat} (R : TwRep T X) (F : Tcw L M N T U) (hA : ∀ j, j ∈ [1, 5, 19, 20, 21, 25, 26, 27, 28, 29, 30, 31, 34, 35, 36, 37] → j ∉ L) (hM : ∀ j, j ∈ [209, 250, 253, 254, 255, 272] → j ∉ M) (hN : 3 ∉ N) {Y : AX} (eg : Y.gr = X.gr) (et : Y.tr = X.tr) (ea : Y.an = X.an) (hm : Y.m ≤ 1000) (hb : ∀ k, Y.tp k < 256)
    (h5 : U.s 205 = I Y.m) (h6 : ∀ k, k < Y.m → U.a 0 k = I (Y.tp k)) (h7 : U.s 206 = Y.st) (h8 : U.s 207 = Y.fk) (h9 : U.s 208 = Y.fp) : TwRep U Y := by
  have s := fun j (hj : j ∈ [209, 250, 253, 254, 255, 272]) => F.s j (hM j hj)
  have a := fun j (hj : j ∈ [1, 5, 19, 20, 21, 25, 26, 27, 28, 29, 30, 31, 34, 35, 36, 37]) => F.a j (hA j hj)
  refine ⟨⟨hm, hb, by rw [eg]; exact R.ok.g, by rw [eg, et]; exact R.ok.t⟩, h5, h6, h7, h8, h9, by rw [a 5 (by decide)]; exact R.z5, fun h => (s _ (by decide)).trans (R.g0 (eg ▸ h)), fun A ind h => ?_, fun h => (s _ (by decide)).trans (R.t0 (et ▸ h)), fun V sz gv A ind h1 h2 => ?_, fun h1 h2 => (s _ (by decide)).trans (R.a0 (et ▸ h1) (ea ▸ h2)), fun h1 x y h2 => ?_⟩
  · rw [eg] at h
    obtain ⟨q1, ⟨c, q2⟩, q3⟩ := R.g1 A ind h
    exact ⟨(s _ (by decide)).trans q1, ⟨c, q2.keepW F (hA _ (by decide)) hN⟩, by rw [a 5 (by decide)]; exact q3⟩
  · rw [et] at h1
    rw [eg] at h2
    obtain ⟨q1, O, q2⟩ := R.t1 V sz gv A ind h1 h2
    exact ⟨(q1.keep F.tch (fun j hj => hA j (by revert j; decide)) (hM _ (by decide))).of rfl rfl, O, (q2.keepQ F.tch (fun j hj => hA j (by revert j; decide)) (hM _ (by decide))).of rfl rfl⟩
  · rw [et] at h1
    rw [ea] at h2
    obtain ⟨q1, q2, q3⟩ := R.a1 h1 x y h2
    exact ⟨(s _ (by decide)).trans q1, (s _ (by decide)).trans q2, (s _ (by decide)).trans q3⟩

/-- rows are taken over. -/
theorem TwG.cpy (Y : TwG T 2 4 A c) (ha : ∀ i, i < 3816 → U.a 1 i = T.a 2 i) (hl : ∀ i, i < 84 → U.l 3 i = T.l 4 i) : TwG U 1 3 A c := by
  have hS := Y.w.nS
  have hP := Y.w.nP
  refine ⟨⟨?_, ?_, ?_, ?_, ?_, ?_, ?_, ?_⟩, ⟨?_, ?_⟩, ?_, ?_, ?_, ?_, ?_, Y.w, Y.rl, ?_⟩
  · rw [ha _ (by omega)]; exact Y.g.nS
  · rw [ha _ (by omega)]; exact Y.g.nP
  · intro s hs; rw [ha _ (by omega)]; exact Y.g.ins s hs
  · intro s hs; rw [ha _ (by omega)]; exact Y.g.outs s hs
  · intro s hs; rw [ha _ (by omega)]; exact Y.g.left s hs
  · intro s hs; rw [ha _ (by omega)]; exact Y.g.kn s hs
  · intro p j hp hj
    have := Y.w.kn p hp
    rw [ha _ (by omega)]; exact Y.g.kid p j hp hj
  · intro p o hp ho; rw [ha _ (by omega)]; exact Y.g.ask p o hp ho
  · intro p o hp ho hn
    rw [ha _ (by omega), ha _ (by omega), ha _ (by omega)]; exact Y.k.cn p o hp ho hn
  · intro p o e hp ho hn
    obtain ⟨f, h1, h2, h3, h4, h5⟩ := Y.k.cs p o e hp ho hn
    rw [ha _ (by omega), ha _ (by omega), ha _ (by omega)]
    refine ⟨f, h1, h2, h3, h4, fun i hi => ?_⟩
    rw [ha _ (by omega), ha _ (by omega)]; exact h5 i hi
  · rw [ha _ (by omega)]; exact Y.z
  · rw [ha _ (by omega)]; exact Y.m
  · intro s hs; unfold TwN; rw [hl _ (by omega)]; exact Y.sn s hs
  · intro s hs; unfold TwN; rw [hl _ (by omega)]; exact Y.pn s hs
  · intro s a hs ha'
    have := Y.w.cnt8 hs
    unfold TwN; rw [hl _ (by omega)]; exact Y.an s a hs ha'
  · intro p o e f hp ho hn hf he
    rw [ha _ (by omega)] at he
    exact Y.cb p o e f hp ho hn hf he

theorem PG.nil_TwG (h0 : T.a 2 0 = 0) (h1 : T.a 2 1 = 0) (h2 : T.a 2 2 = 0) (h3 : T.a 2 3 = 0) : TwG T 2 4 PG.nil 0 := by
  have no : ∀ k, ¬ k < PG.nil.g.nS := fun k => Nat.not_lt_zero k
  have np : ∀ k, ¬ k < PG.nil.g.nP := fun k => Nat.not_lt_zero k
  refine ⟨⟨h0, h1, fun s h => absurd h (no s), fun s h => absurd h (no s), fun s h => absurd h (np s), fun s h => absurd h (np s), fun s _ h => absurd h (np s), fun s _ h => absurd h (np s)⟩, ⟨fun p _ h => absurd h (np p), fun p _ _ h => absurd h (np p)⟩, h2, h3, fun s h => absurd h (no s), fun s h => absurd h (np s), fun s _ h => absurd h (no s), ?_, ?_, fun p _ _ _ h => absurd h (np p)⟩
  · exact ⟨Nat.zero_le _, Nat.zero_le _, fun s h => absurd h (no s), fun s h => absurd h (no s), fun s h => absurd h (no s), fun p h => absurd h (np p), fun p _ h => absurd h (np p), fun p _ _ h => absurd h (np p), fun p _ _ _ h => absurd h (np p)⟩
  · exact ⟨fun p _ _ _ h => absurd h (np p), fun p _ _ h => absurd h (np p), fun p _ _ h => absurd h (np p)⟩

theorem pt_begins (R : TwRep T X) {k : Nat} (hk : k ≤ X.m) {Q : TS → Prop} (h : ∀ U, Tcw [] [205, 210, 211, 212, 213, 214, 215, 216, 217] [] T U → TwT U X.tp k (tok X.tp k 0) → U.s 205 = 0 → Q U) : wp_X1_begins (I k) T Q := by
  have hm := R.ok.m
  intro T1 h1 T2 h2 T3 h3 T4 h4 T5 h5
  have F : Tcw [] [205, 210, 211, 212, 213, 214, 215, 216, 217] [] T T5 := by
    rw [h5, h4, h3, h2, h1]
    exact (((((Tcw.refl T).ss (by decide) _).ss (by decide) _).ss (by decide) _).ss (by decide) _).ss (by decide) _
  have e0 : T5.s 205 = 0 := by rw [h5, h4, h3, h2, h1]; rfl
  have e1 : T5.s 210 = I k := by rw [h5, h4, h3, h2, h1]; rfl
  have e2 : T5.s 212 = I 0 := by rw [h5, h4, h3, h2, h1]; rfl
  have e3 : T5.s 216 = 0 := by rw [h5, h4, h3, h2, h1]; rfl
  have e4 : T5.s 217 = -1 := by rw [h5, h4, h3, h2, h1]; rfl
  refine pt_go (p := 0) (tp := X.tp) (n := k) ⟨e1, by omega, fun i hi => by rw [F.a 0 (by decide)]; exact R.tt i (by omega), fun i _ => R.ok.b i, e3, e4⟩ e2 (Nat.zero_le _) ?_
  intro U FU K
  exact h U (F.trans (FU.mono (by decide) (by decide) (by decide))) K ((FU.s _ (by decide)).trans e0)

noncomputable def Gv.indO (G : Gv) : Nat → Int32 := @dite _ (∃ ind, G.IsInd ind) (Classical.propDecidable _) (fun h => h.choose) (fun _ _ => 0)
theorem Gv.indO_eq {ind : Nat → Int32} (h : G.IsInd ind) : G.indO = ind := by
  unfold Gv.indO
  have hx : ∃ ind, G.IsInd ind := ⟨ind, h⟩
  rw [dif_pos hx]
  exact hx.choose_spec.unique h

noncomputable def xGrammar (X : AX) (x : Int32) : AX := cif (inR x (X.m + 1)) (match pAll X.tp (ni x) with
  | .error f => AX.mk 0 X.tp 9 (I f.1) (I f.2) X.gr X.tr X.an
  | .ok A => AX.mk 0 X.tp 0 0 (-1) (some (A, A.g.indO)) none none) (X.ws 1)
noncomputable def qGrammar (X : AX) (x : Int32) : Int32 := cif (inR x (X.m + 1)) (match pAll X.tp (ni x) with
  | .error _ => -1
  | .ok A => I A.g.nP) (-1)

def GrI (T0 : TS) (tp : Nat → Nat) (n f : Nat) (s : Int32) (U : TS) : Prop :=
  Tcw [2] LsR [4] T0 U ∧ ((s = 1 ∧ ∃ A t c, TwT U tp n t ∧ TwG U 2 4 A c ∧ c ≤ t.fr ∧ (t.kd = 0 → pAll tp n = .ok A) ∧ (t.kd ≠ 0 → pGr tp n f A t = pAll tp n ∧ n + 1 ≤ t.fr + f)) ∨ (s = 0 ∧ ∃ e, pAll tp n = .error e ∧ TwF U e))
theorem GrI.step {T0 : TS} {f : Nat} {t : Tk} (F : Tcw [2] LsR [4] T0 T) (K : TwT T tp n t) (Y : TwG T 2 4 A c) (hc : c ≤ t.fr) (h1 : pGr tp n (f + 1) A t = pAll tp n) (h2 : n + 1 ≤ t.fr + (f + 1)) {Q : Int32 → TS → Prop} (h : ∀ r U, GrI T0 tp n f r U → Q r U) : wp_X1_readLine T Q := by
  unfold pGr at h1
  refine pt_readLine K Y hc ?_ ?_
  · intro U A' t' c' e FU YU hc' KU
    rw [e] at h1
    dsimp only at h1
    have g := pLn_fr Y.w K.k e
    refine h 1 U ⟨F.trans FU, .inl ⟨rfl, A', t', c', KU, YU, hc', fun hk => ?_, fun hk => ⟨?_, ?_⟩⟩⟩
    · rw [if_pos hk] at h1; exact h1.symm
    · rw [if_neg hk] at h1; exact h1
    · have := g.1; omega
  · intro U e' e FU f'
    rw [e] at h1
    exact h 0 U ⟨F.trans FU, .inr ⟨rfl, e', h1.symm, f'⟩⟩

theorem pt_grammar (R : TwRep T X) {Q : Int32 → TS → Prop} (h : ∀ U, TwRep U (xGrammar X x) → Q (qGrammar X x) U) : wp_X1_grammar x T Q := by
  have hm := R.ok.m
  unfold wp_X1_grammar
  refine pt_isFromR (m := X.m + 1) (by omega) (by rw [R.n]; exact (I_sub (a := X.m + 1) (b := 1) (by omega)).symm) ?_
  unfold xGrammar qGrammar at h
  by_cases hr : inR x (X.m + 1)
  rotate_left
  · rw [iP_neg hr]
    rw [cif_neg hr, cif_neg hr] at h
    exact brT rfl (pt_refuse R h)
  rw [iP_pos hr]
  rw [cif_pos hr, cif_pos hr] at h
  refine brF (by decide) ?_
  obtain ⟨k, hk, e⟩ := hr
  subst e
  rw [I_ni (by omega)] at h
  refine pt_begins R (by omega) ?_
  intro T4 F4 K4 z4
  refine ⟨tix_I (k := 0) rfl (by decide) (by decide), ?_⟩
  intro T6 h6
  refine ⟨tix_I (k := 1) rfl (by decide) (by decide), ?_⟩
  intro T7 h7
  refine ⟨tix_I (k := 2) rfl (by decide) (by decide), ?_⟩
  intro T8 h8
  refine ⟨tix_I (k := 3) rfl (by decide) (by decide), ?_⟩
  intro T9 h9
  have F9 : Tcw [2] [] [] T4 T9 := by
    rw [h9, h8, h7, h6]
    exact ((((Tcw.refl T4).sa (by decide) _ _).sa (by decide) _ _).sa (by decide) _ _).sa (by decide) _ _
  have a9 : T9.a 2 = updN (updN (updN (updN (T4.a 2) 0 0) 1 0) 2 0) 3 0 := by
    rw [h9, sa_at, h8, sa_at, h7, sa_at, h6, sa_at]; rfl
  have w9 : T9.w 218 = T4.w 218 := by rw [h9, h8, h7, h6]; rfl
  have K9 := K4.keep F9 w9 (by decide) (by decide)
  have Y9 : TwG T9 2 4 PG.nil 0 := PG.nil_TwG (by rw [a9]; rfl) (by rw [a9]; rfl) (by rw [a9]; rfl) (by rw [a9]; rfl)
  have FT : Tcw [2] [205, 210, 211, 212, 213, 214, 215, 216, 217, 219, 220, 221] [4] T T9 := (F4.mono (by decide) (by decide) (by decide)).trans (F9.mono (by decide) (by decide) (by decide))
  have z9 : T9.s 205 = 0 := (F9.s _ (by decide)).trans z4
  refine GrI.step (f := k + 1) (Tcw.refl T9) K9 Y9 (Nat.zero_le _) rfl (by omega) ?_
  intro r11 T10 hI
  refine ⟨fun f s U => GrI T9 X.tp k f s U, ⟨k + 1, hI⟩, ?_⟩
  intro f s U hI
  obtain ⟨F, hI⟩ := hI
  have FU : Tcw [2] [205, 210, 211, 212, 213, 214, 215, 216, 217, 219, 220, 221] [4] T U := FT.trans (F.mono (by decide) (by decide) (by decide))
  have z : U.s 205 = 0 := (F.s _ (by decide)).trans z9
  rcases hI with ⟨hs, A, t, c, KU, YU, hc, i1, i2⟩ | ⟨hs, e, i1, i2⟩
  · rw [hs]
    by_cases hkd : t.kd = 0
    · refine brT (.inr (by rw [KU.kd, hkd]; rfl)) ?_
      rw [i1 hkd] at h
      dsimp only at h
      intro U1 hU1 U2 hU2 m3 hm3
      rw [KU.p.q0] at hU1
      have e217 : U1.s 217 = -1 := by rw [hU1]; exact KU.p.q1
      rw [e217] at hU2
      rw [if_neg (by decide)] at hm3
      rw [hm3]
      refine brT (by decide) ?_
      have FU2 : Tcw [] [207, 208] [] U U2 := by rw [hU2, hU1]; exact ((Tcw.refl U).ss (by decide) _).ss (by decide) _
      refine tlp_cnt 3816 (fun i s W => s = I i ∧ Tcw [1] [] [] U2 W ∧ ∀ j, j < i → W.a 1 j = U.a 2 j) ⟨rfl, Tcw.refl _, fun j hj => absurd hj (by omega)⟩ ?_
      intro i s W KK hi hh hK
      obtain ⟨es, FW, hc1⟩ := hh
      rw [es]
      by_cases ei : i = 3816
      rotate_left
      · have hi' : i < 3816 := by omega
        refine brF (by (first | omega | ((try simp (disch := omega) only [L_le, le_L, L_lt, lt_L, eq_L, L_eq, I_le, I_lt, I_eq, I_ni, add_L, L_add, I_add, mul_L, L_mul, I_mul, sub_L, L_sub, I_sub, div_L, rem_L]); done) | ((try simp (disch := omega) only [L_le, le_L, L_lt, lt_L, eq_L, L_eq, I_le, I_lt, I_eq, I_ni, add_L, L_add, I_add, mul_L, L_mul, I_mul, sub_L, L_sub, I_sub, div_L, rem_L]); omega))) ⟨tix_I rfl (by show _ < 3816; omega) (by decide), tix_I rfl (by show _ < 3816; omega) (by decide), ?_⟩
        rw [I_ni (by omega), FW.a 2 (by decide), FU2.a 2 (by decide)]
        intro W' hW'
        (try simp (disch := omega) only [L_le, le_L, L_lt, lt_L, eq_L, L_eq, I_le, I_lt, I_eq, I_ni, add_L, L_add, I_add, mul_L, L_mul, I_mul, sub_L, L_sub, I_sub, div_L, rem_L])
        refine hK _ _ hi' ⟨rfl, by rw [hW']; exact FW.sa (by decide) _ _, fun j hj => ?_⟩
        rw [hW', sa_at]
        by_cases ej : j = i
        · rw [ej, updN_same]
        · rw [updN_ne _ _ ej]; exact hc1 j (by omega)
      subst ei
      refine brT (by (first | omega | ((try simp (disch := omega) only [L_le, le_L, L_lt, lt_L, eq_L, L_eq, I_le, I_lt, I_eq, I_ni, add_L, L_add, I_add, mul_L, L_mul, I_mul, sub_L, L_sub, I_sub, div_L, rem_L]); done) | ((try simp (disch := omega) only [L_le, le_L, L_lt, lt_L, eq_L, L_eq, I_le, I_lt, I_eq, I_ni, add_L, L_add, I_add, mul_L, L_mul, I_mul, sub_L, L_sub, I_sub, div_L, rem_L]); omega))) ?_
      refine tlp_cnt 84 (fun i s W' => s = I i ∧ Tcw [] [] [3] W W' ∧ ∀ j, j < i → W'.l 3 j = U.l 4 j) ⟨rfl, Tcw.refl _, fun j hj => absurd hj (by omega)⟩ ?_
      intro i s W' KK' hi hh hK'
      obtain ⟨es, FW', hc2⟩ := hh
      rw [es]
      by_cases ei : i = 84
      rotate_left
      · have hi' : i < 84 := by omega
        refine brF (by (first | omega | ((try simp (disch := omega) only [L_le, le_L, L_lt, lt_L, eq_L, L_eq, I_le, I_lt, I_eq, I_ni, add_L, L_add, I_add, mul_L, L_mul, I_mul, sub_L, L_sub, I_sub, div_L, rem_L]); done) | ((try simp (disch := omega) only [L_le, le_L, L_lt, lt_L, eq_L, L_eq, I_le, I_lt, I_eq, I_ni, add_L, L_add, I_add, mul_L, L_mul, I_mul, sub_L, L_sub, I_sub, div_L, rem_L]); omega))) ⟨tix_I rfl (by show _ < 84; omega) (by decide), tix_I rfl (by show _ < 84; omega) (by decide), ?_⟩
        rw [I_ni (by omega), FW'.l 4 (by decide), FW.l 4 (by decide), FU2.l 4 (by decide)]
        intro W'' hW''
        (try simp (disch := omega) only [L_le, le_L, L_lt, lt_L, eq_L, L_eq, I_le, I_lt, I_eq, I_ni, add_L, L_add, I_add, mul_L, L_mul, I_mul, sub_L, L_sub, I_sub, div_L, rem_L])
        refine hK' _ _ hi' ⟨rfl, by rw [hW'']; exact FW'.sl (by decide) _ _, fun j hj => ?_⟩
        rw [hW'', sl_at]
        by_cases ej : j = i
        · rw [ej, updN_same]
        · rw [updN_ne _ _ ej]; exact hc2 j (by omega)
      subst ei
      refine brT (by (first | omega | ((try simp (disch := omega) only [L_le, le_L, L_lt, lt_L, eq_L, L_eq, I_le, I_lt, I_eq, I_ni, add_L, L_add, I_add, mul_L, L_mul, I_mul, sub_L, L_sub, I_sub, div_L, rem_L]); done) | ((try simp (disch := omega) only [L_le, le_L, L_lt, lt_L, eq_L, L_eq, I_le, I_lt, I_eq, I_ni, add_L, L_add, I_add, mul_L, L_mul, I_mul, sub_L, L_sub, I_sub, div_L, rem_L]); omega))) ?_
      intro W1 hW1 W2 hW2
      have FW2 : Tcw [] [209, 250] [] W' W2 := by rw [hW2, hW1]; exact ((Tcw.refl W').ss (by decide) _).ss (by decide) _
      have all : Tcw [1, 2] [205, 207, 208, 209, 210, 211, 212, 213, 214, 215, 216, 217, 219, 220, 221, 250] [3, 4] T W2 := ((((FU.mono (by decide) (by decide) (by decide)).trans (FU2.mono (by decide) (by decide) (by decide))).trans (FW.mono (by decide) (by decide) (by decide))).trans (FW'.mono (by decide) (by decide) (by decide))).trans (FW2.mono (by decide) (by decide) (by decide))
      have Y2 : TwG W2 1 3 A c := YU.cpy (fun i hi => by rw [FW2.a 1 (by decide), FW'.a 1 (by decide)]; exact hc1 i hi) (fun i hi => by rw [FW2.l 3 (by decide)]; exact hc2 i hi)
      have s9 : W2.s 209 = 1 := by rw [hW2, hW1]; rfl
      have s250 : W2.s 250 = 0 := by rw [hW2]; rfl
      have s205 : W2.s 205 = 0 := (FW2.s _ (by decide)).trans ((FW'.s _ (by decide)).trans ((FW.s _ (by decide)).trans ((FU2.s _ (by decide)).trans z)))
      have s207 : W2.s 207 = 0 := (FW2.s _ (by decide)).trans ((FW'.s _ (by decide)).trans ((FW.s _ (by decide)).trans (by rw [hU2, hU1]; rfl)))
      have s208 : W2.s 208 = -1 := (FW2.s _ (by decide)).trans ((FW'.s _ (by decide)).trans ((FW.s _ (by decide)).trans (by rw [hU2]; rfl)))
      have z5 : ∀ i, 64 ≤ i → W2.a 5 i = 0 := by rw [all.a 5 (by decide)]; exact R.z5
      refine pt_induces Y2.w Y2.g rfl z5 ?_
      intro ind rr hind
      have Y3 : TwG ((W2.wa 5 ind).wa 6 rr) 1 3 A c := Y2.keepW (L := [5, 6]) (M := []) (N := []) ⟨fun j hj => by rw [wa_a, if_neg (fun e => hj (by rw [e]; decide)), wa_a, if_neg (fun e => hj (by rw [e]; decide))], fun _ _ => rfl, fun _ _ => rfl⟩ (by decide) (by decide)
      refine ⟨tix_I (k := 1) rfl (by decide) (by decide), ?_⟩
      rw [show ni 1 = 1 from rfl, Y3.g.nP]
      rw [Gv.indO_eq hind] at h
      refine pt_gives (X := AX.mk 0 X.tp X.st 0 (-1) (some (A, ind)) none none) ?_ h
      refine ⟨⟨by show 0 ≤ 1000; omega, R.ok.b, fun A' ind' e => ?_, fun V sz gv e => absurd (show (none : Option (Tv × (Nat → Nat) × (Nat → Int32))) = some (V, sz, gv) from e) (by simp)⟩, s205, fun k hk => absurd (show k < 0 from hk) (by omega), (all.s _ (by decide)).trans R.st, s207, s208, ?_, fun e => absurd (show some (A, ind) = none from e) (by simp), fun A' ind' e => ?_, fun _ => s250, fun V sz gv _ _ e => absurd (show (none : Option (Tv × (Nat → Nat) × (Nat → Int32))) = some (V, sz, gv) from e) (by simp), fun e => absurd rfl e, fun e => absurd rfl e⟩
      · have e' := Prod.mk.inj (Option.some.inj (show some (A, ind) = some (A', ind') from e))
        rw [← e'.1, ← e'.2]
        exact ⟨Y2.w, Y2.rl, hind, fun i hi => hind.big Y2.w hi⟩
      · intro i hi
        show ind i = 0
        exact hind.big Y2.w hi
      · have e' := Prod.mk.inj (Option.some.inj (show some (A, ind) = some (A', ind') from e))
        rw [← e'.1, ← e'.2]
        exact ⟨s9, ⟨c, Y3⟩, rfl⟩
    · refine brF (fun hh => ?_) ?_
      · rcases hh with hh | hh
        · exact absurd hh (by decide)
        · rw [KU.kd] at hh
          have h5 := KU.k5
          exact hkd ((I0 (by omega)).1 hh)
      · obtain ⟨i3, i4⟩ := i2 hkd
        have l1 := KU.l1
        have l2 := KU.l2
        obtain ⟨f', ef⟩ : ∃ f', f = f' + 1 := ⟨f - 1, by omega⟩
        subst ef
        refine GrI.step F KU YU hc i3 i4 ?_
        intro r V hV
        exact ⟨f', by omega, hV⟩
  · rw [hs]
    refine brT (.inl rfl) ?_
    rw [i1] at h
    dsimp only at h
    intro U1 hU1 U2 hU2 m3 hm3
    rw [i2.1] at hU1
    have e217 : U1.s 217 = I e.2 := by rw [hU1]; exact i2.2
    rw [e217] at hU2
    rw [if_pos rfl] at hm3
    rw [hm3]
    refine brF (by decide) ?_
    have FU2 : Tcw [] [207, 208] [] U U2 := by rw [hU2, hU1]; exact ((Tcw.refl U).ss (by decide) _).ss (by decide) _
    have all : Tcw [2] [205, 207, 208, 210, 211, 212, 213, 214, 215, 216, 217, 219, 220, 221] [4] T U2 := (FU.mono (by decide) (by decide) (by decide)).trans (FU2.mono (by decide) (by decide) (by decide))
    refine pt_refuse (X := AX.mk 0 X.tp X.st (I e.1) (I e.2) X.gr X.tr X.an) ?_ h
    exact R.kw all (by decide) (by decide) (by decide) rfl rfl rfl (by show 0 ≤ 1000; omega) R.ok.b ((FU2.s _ (by decide)).trans z) (fun k hk => absurd (show k < 0 from hk) (by omega)) ((all.s _ (by decide)).trans R.st) (by rw [hU2, hU1]; rfl) (by rw [hU2]; rfl)
end
