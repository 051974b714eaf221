/-! plain: ue -/
set_option maxRecDepth 100000
section
variable {L : GA} {A : PG} {g o : Nat} {ind : Nat → Int32} {V : Tv} {sz : Nat → Nat} {D : TA} {lp : Nat → List Int32}

/-- how many of a kind a node's plan has past its cursor. -/
def rnM (V : Tv) (lp : Nat → List Int32) (P : Int32 → Bool) (k a : Nat) : Nat := pcn P ((lp (V.pd k)).take a)
def rnTt (V : Tv) (lp : Nat → List Int32) (P : Int32 → Bool) (cu : Nat → Nat) : Nat := sN (fun j => rnM V lp P j (cu j)) V.n
/-- plans as they are. -/
def RnP (G : Gv) (ind : Nat → Int32) (lp : Nat → List Int32) : Prop :=
  (∀ p, p < G.nP → pcn isRl (lp p) = cnP (fun i => G.tl p i) 32) ∧
  (∀ p c, p < G.nP → 1 ≤ c → c ≤ G.kn p → pcn (isCh c) (lp p) = G.vs ind (G.sy p c)) ∧
  (∀ p, p < G.nP → pcn isMk (lp p) = G.vs ind (G.sy p 0)) ∧
  (∀ p, p < G.nP → ∃ l w, lp p = l ++ [w] ∧ isMk w = true) ∧
  (∀ p w, p < G.nP → w ∈ lp p → cdOk G p w) ∧
  (∀ p, p < G.nP → (lp p).length ≤ 68)
theorem RnP.rl {G : Gv} {ind : Nat → Int32} {lp : Nat → List Int32} (h9 : RnP G ind lp) : ∀ p, p < G.nP → pcn isRl (lp p) = cnP (fun i => G.tl p i) 32 := h9.1
theorem RnP.ch {G : Gv} {ind : Nat → Int32} {lp : Nat → List Int32} (h9 : RnP G ind lp) : ∀ p c, p < G.nP → 1 ≤ c → c ≤ G.kn p → pcn (isCh c) (lp p) = G.vs ind (G.sy p c) := h9.2.1
theorem RnP.mk {G : Gv} {ind : Nat → Int32} {lp : Nat → List Int32} (h9 : RnP G ind lp) : ∀ p, p < G.nP → pcn isMk (lp p) = G.vs ind (G.sy p 0) := h9.2.2.1
theorem RnP.la {G : Gv} {ind : Nat → Int32} {lp : Nat → List Int32} (h9 : RnP G ind lp) : ∀ p, p < G.nP → ∃ l w, lp p = l ++ [w] ∧ isMk w = true := h9.2.2.2.1
theorem RnP.cd {G : Gv} {ind : Nat → Int32} {lp : Nat → List Int32} (h9 : RnP G ind lp) : ∀ p w, p < G.nP → w ∈ lp p → cdOk G p w := h9.2.2.2.2.1
theorem RnP.ln {G : Gv} {ind : Nat → Int32} {lp : Nat → List Int32} (h9 : RnP G ind lp) : ∀ p, p < G.nP → (lp p).length ≤ 68 := h9.2.2.2.2.2
/-- below k all goes with the cursors. -/
def RnL (V : Tv) (G : Gv) (lp : Nat → List Int32) (cu : Nat → Nat) (k e : Nat) : Prop :=
  (∀ q, k ≤ q → q < e → cu q ≤ (lp (V.pd q)).length) ∧
  (∀ q c, k ≤ q → q < e → 1 ≤ c → c ≤ G.kn (V.pd q) → rnM V lp isMk (V.kd q c) (cu (V.kd q c)) = rnM V lp (isCh c) q (cu q))
theorem RnL.b {V : Tv} {G : Gv} {lp : Nat → List Int32} {cu : Nat → Nat} {k e : Nat} (h9 : RnL V G lp cu k e) : ∀ q, k ≤ q → q < e → cu q ≤ (lp (V.pd q)).length := h9.1
theorem RnL.r {V : Tv} {G : Gv} {lp : Nat → List Int32} {cu : Nat → Nat} {k e : Nat} (h9 : RnL V G lp cu k e) : ∀ q c, k ≤ q → q < e → 1 ≤ c → c ≤ G.kn (V.pd q) → rnM V lp isMk (V.kd q c) (cu (V.kd q c)) = rnM V lp (isCh c) q (cu q) := h9.2
/-- a run as it lies there. -/
def RnR (c : HC) (V : Tv) (x : Nat) (cu : Nat → Nat) (nv nr : Nat) : Prop :=
  ((c.kd x).1 = 18) ∧
  (x + 1 < c.sz) ∧
  (c.fr 1800 x = some (x + 1)) ∧
  (c.kd (x + 1) = (40, 40)) ∧
  (∀ j, j < V.n → c.ai (x + 1) j = I (cu j)) ∧
  (c.fi 1801 x = I nv) ∧
  (c.fi 1802 x = I nr)
theorem RnR.k {c : HC} {V : Tv} {x : Nat} {cu : Nat → Nat} {nv nr : Nat} (h9 : RnR c V x cu nv nr) : (c.kd x).1 = 18 := h9.1
theorem RnR.l {c : HC} {V : Tv} {x : Nat} {cu : Nat → Nat} {nv nr : Nat} (h9 : RnR c V x cu nv nr) : x + 1 < c.sz := h9.2.1
theorem RnR.f {c : HC} {V : Tv} {x : Nat} {cu : Nat → Nat} {nv nr : Nat} (h9 : RnR c V x cu nv nr) : c.fr 1800 x = some (x + 1) := h9.2.2.1
theorem RnR.ck {c : HC} {V : Tv} {x : Nat} {cu : Nat → Nat} {nv nr : Nat} (h9 : RnR c V x cu nv nr) : c.kd (x + 1) = (40, 40) := h9.2.2.2.1
theorem RnR.a {c : HC} {V : Tv} {x : Nat} {cu : Nat → Nat} {nv nr : Nat} (h9 : RnR c V x cu nv nr) : ∀ j, j < V.n → c.ai (x + 1) j = I (cu j) := h9.2.2.2.2.1
theorem RnR.vi {c : HC} {V : Tv} {x : Nat} {cu : Nat → Nat} {nv nr : Nat} (h9 : RnR c V x cu nv nr) : c.fi 1801 x = I nv := h9.2.2.2.2.2.1
theorem RnR.ru {c : HC} {V : Tv} {x : Nat} {cu : Nat → Nat} {nv nr : Nat} (h9 : RnR c V x cu nv nr) : c.fi 1802 x = I nr := h9.2.2.2.2.2.2
theorem rnM_step {P : Int32 → Bool} {k a : Nat} (ha : a < (lp (V.pd k)).length) : rnM V lp P k (a + 1) = rnM V lp P k a + if P ((lp (V.pd k)).getD a 0) then 1 else 0 := pcn_take P ha
theorem rnTt_step {P : Int32 → Bool} {cu : Nat → Nat} {k : Nat} (hk : k < V.n) (ha : cu k < (lp (V.pd k)).length) : rnTt V lp P (updN cu k (cu k + 1)) = rnTt V lp P cu + if P ((lp (V.pd k)).getD (cu k) 0) then 1 else 0 := by
  have st := rnM_step (V := V) (lp := lp) (P := P) ha
  cases hp : P ((lp (V.pd k)).getD (cu k) 0) with
  | true =>
    rw [hp, if_pos rfl] at st
    rw [if_pos rfl]
    refine sN_up (i := k) hk (fun j _ hj => ?_) ?_
    · show rnM V lp P j (updN cu k (cu k + 1) j) = _
      rw [updN_ne _ _ hj]
    · show rnM V lp P k (updN cu k (cu k + 1) k) = _
      rw [updN_same]; exact st
  | false =>
    rw [hp, if_neg (by simp)] at st
    rw [if_neg (by simp)]
    refine sN_congr (fun j _ => ?_)
    show rnM V lp P j (updN cu k (cu k + 1) j) = rnM V lp P j (cu j)
    by_cases e : j = k
    · rw [e, updN_same]; exact st
    · rw [updN_ne _ _ e]
theorem isCh_one {c c' : Nat} {w : Int32} (hc : c ≤ 3) (hc' : c' ≤ 3) (h1 : isCh c w = true) (h2 : isCh c' w = true) : c = c' := by
  unfold isCh at h1 h2
  simp only [Bool.and_eq_true, decide_eq_true_eq] at h1 h2
  exact (I_eq (by omega) (by omega)).1 (h1.2.symm.trans h2.2)
/-- a cursor steps past what is no child's visit. -/
theorem RnL.step {G : Gv} {cu : Nat → Nat} {k e : Nat} (M : RnL V G lp cu k e) (ha : cu k < (lp (V.pd k)).length) (kid : ∀ q c, k ≤ q → q < e → 1 ≤ c → c ≤ G.kn (V.pd q) → k < V.kd q c) (hn : ∀ c, 1 ≤ c → c ≤ G.kn (V.pd k) → isCh c ((lp (V.pd k)).getD (cu k) 0) = false) : RnL V G lp (updN cu k (cu k + 1)) k e := by
  refine ⟨fun q h1 h2 => ?_, fun q c h1 h2 h3 h4 => ?_⟩
  · by_cases e : q = k
    · rw [e, updN_same]; omega
    · rw [updN_ne _ _ e]; exact M.b q h1 h2
  · have := kid q c h1 h2 h3 h4
    rw [updN_ne _ _ (show V.kd q c ≠ k by omega), M.r q c h1 h2 h3 h4]
    by_cases e : q = k
    · rw [e] at h4 ⊢
      rw [updN_same, rnM_step ha, hn c h3 h4, if_neg (by simp)]
      rfl
    · rw [updN_ne _ _ e]
def WRn (x : Nat) : Nat → Nat → Prop := fun f a => (a = x ∧ (f = 1801 ∨ f = 1802)) ∨ (f = 0 ∧ a = x + 1)

theorem px_goes18 (K : trK A V sz) {c0 : HC} (C0 : CgR c0 L A g ind) (R0 : TrR c0 L D A.g V o) {x : Nat} (hx : c0.sz ≤ x) (PL : RnP A.g ind lp)
    (pl : ∀ p, p < A.g.nP → ∀ i, i < (lp p).length → c0.ai (L.pp p) i = (lp p).getD i 0) :
    ∀ (d k : Nat) (h : AH) (cu : Nat → Nat) (e : Nat) (Q : AH → Prop), k < V.n → 12 ≤ d + V.dp k → Fr W0 c0 h.c → (∃ nv, RnR h.c V x cu nv (rnTt V lp isRl cu) ∧ nv = rnTt V lp isMk cu + e) → RnL V A.g lp cu k (k + sz k) → rnM V lp isMk k (cu k) < A.g.vs ind (V.sm A.g k) →
    (∀ h' cu', Fr W0 c0 h'.c → h'.sz = h.sz → h'.rc = h.rc → h'.rs = h.rs → (∃ nv, RnR h'.c V x cu' nv (rnTt V lp isRl cu') ∧ nv = rnTt V lp isMk cu' + e) → RnL V A.g lp cu' k (k + sz k) → rnM V lp isMk k (cu' k) = rnM V lp isMk k (cu k) + 1 → (∀ j, j < k ∨ k + sz k ≤ j → cu' j = cu j) → Q h') → wp_X18_goes d x (some (D.r k)) h Q
  | 0, k, h, cu, e, Q, hk, hd, _, _, _, _, _ => by have := (K.nd k hk).d; have e : V.dp k < 12 := this; omega
  | d + 1, k, h, cu, e, Q, hk, hd, F, ⟨nv, R, enva⟩, M, hmk, hQ => by
    have WF := K.WF
    have h40 := K.n40
    have hp := WF.pd k hk
    have hl68 := PL.ln _ hp
    have hends := K.ends hk
    have kn3 := C0.W.kn _ hp
    show wo_X18_goes (fam_X18_goes d) x (some (D.r k)) h Q
    unfold wo_X18_goes
    refine ⟨nn_of rfl R.k, ?_⟩
    intro h2 e2
    have vi : h.fi 1801 x = I nv := R.vi
    rw [vi, show I nv + 1 = I (nv + 1) from I_add nv 1] at e2
    have Rl : x + 1 < h.sz := R.l
    have F2 : Fr W0 c0 h2.c := by rw [e2]; exact F.sfi _ (fun hh => by omega)
    have R2 : RnR h2.c V x cu (nv + 1) (rnTt V lp isRl cu) := by
      refine ⟨by rw [e2]; exact R.k, by rw [e2]; exact R.l, by rw [e2]; exact R.f, by rw [e2]; exact R.ck, by rw [e2]; exact R.a, ?_, ?_⟩
      · show h2.fi 1801 x = _
        rw [e2, sfi_same]
      · show h2.fi 1802 x = _
        rw [e2, sfi_ne _ _ _ _ (by decide)]; exact R.ru
    obtain ⟨p, ep⟩ : ∃ p, p = V.pd k := ⟨_, rfl⟩
    have kidk : ∀ q c, k ≤ q → q < k + sz k → 1 ≤ c → c ≤ A.g.kn (V.pd q) → k < V.kd q c := fun q c h1 h2 h3 h4 => by
      have := (K.kid (i := q) (j := c) (by omega) h3 h4).1
      omega
    refine xlp_cnt ((lp (V.pd k)).length - cu k) (fun i _ T => ∃ cu' nv', Fr W0 c0 T.c ∧ T.sz = h.sz ∧ T.rc = h.rc ∧ T.rs = h.rs ∧ RnR T.c V x cu' nv' (rnTt V lp isRl cu') ∧ nv' = rnTt V lp isMk cu' + (e + 1) ∧ RnL V A.g lp cu' k (k + sz k) ∧ cu' k = cu k + i ∧ rnM V lp isMk k (cu' k) = rnM V lp isMk k (cu k) ∧ ∀ j, j < k ∨ k + sz k ≤ j → cu' j = cu j) ⟨cu, nv + 1, F2, by rw [e2]; rfl, by rw [e2]; rfl, by rw [e2]; rfl, R2, by omega, M, rfl, rfl, fun _ _ => rfl⟩ ?_
    rintro i _ T KK hi ⟨cu', nv', FT, tz, tc, ts, RT, env, MT, ek, em, eo⟩ hK
    have CT := C0.keep FT (fun _ _ hh => hh.elim)
    have TT := R0.w0 FT
    have N := TT.nd k hk
    have hlt : cu' k < (lp (V.pd k)).length := by
      refine Nat.lt_of_not_le (fun hge => ?_)
      have : rnM V lp isMk k (cu' k) = pcn isMk (lp (V.pd k)) := by
        unfold rnM
        rw [List.take_of_length_le hge]
      rw [em, PL.mk _ hp] at this
      have e9 : V.sm A.g k = A.g.sy (V.pd k) 0 := rfl
      rw [e9] at hmk
      omega
    have hi' : i < (lp (V.pd k)).length - cu k := by omega
    obtain ⟨w, ew⟩ : ∃ w, w = (lp (V.pd k)).getD (cu' k) 0 := ⟨_, rfl⟩
    have hw : w ∈ lp (V.pd k) := by
      rw [ew]
      have : (lp (V.pd k)).getD (cu' k) 0 = (lp (V.pd k))[cu' k] := by simp [List.getD, hlt]
      rw [this]
      exact List.getElem_mem hlt
    have cdw := PL.cd _ w hp hw
    have e15 : T.fr 1500 (D.r k) = some (L.pa (V.pd k)) := N.p
    have e52 : T.fi 1502 (D.r k) = I k := N.ix
    have e70 : T.fr 705 (L.pa (V.pd k)) = some (L.pp (V.pd k)) := CT.X.O.q1 _ hp
    have kpp : T.kd (L.pp (V.pd k)) = (40, 104) := CT.X.O.q2 _ hp
    have f18 : T.fr 1800 x = some (x + 1) := RT.f
    have ck : T.kd (x + 1) = (40, 40) := RT.ck
    have ak : T.ai (x + 1) k = I (cu' k) := RT.a k hk
    have apl : T.ai (L.pp (V.pd k)) (cu' k) = w := by
      have e1 : T.ai (L.pp (V.pd k)) = c0.ai (L.pp (V.pd k)) := FT.ai _ (C0.X.O.q3 _ hp) id
      rw [e1, ew]; exact pl _ hp _ hlt
    rw [adr_some, e15, adr_some, e52, f18, adr_some, I_ni (show k < 2147483648 by omega), ak, e70, adr_some, I_ni (show cu' k < 2147483648 by omega), apl]
    refine ⟨nn_of rfl N.k, nn_of rfl (CT.X.S.pr _ hp).k, nn_of rfl RT.k, ix_of rfl ck (by omega) (by decide), ix_of rfl kpp (by omega) (by decide), ix_of rfl ck (by omega) (by decide), ix_of rfl ck (by omega) (by decide), ?_⟩
    intro h8 e8
    rw [show I (cu' k) + 1 = I (cu' k + 1) from I_add _ 1] at e8
    have tl1 : x + 1 < T.sz := RT.l
    have F8 : Fr W0 c0 h8.c := by rw [e8]; exact FT.sai _ _ (fun hh => by omega)
    obtain ⟨c1, ec1⟩ : ∃ c1, c1 = updN cu' k (cu' k + 1) := ⟨_, rfl⟩
    have a8 : ∀ j, j < V.n → h8.ai (x + 1) j = I (c1 j) := fun j hj => by
      rw [e8, sai_ai, if_pos rfl, ec1]
      by_cases e : j = k
      · rw [e, updN_same, updN_same]
      · rw [updN_ne _ _ e, updN_ne _ _ e]; exact RT.a j hj
    have R8 : ∀ n, n = rnTt V lp isRl cu' → RnR h8.c V x c1 nv' n := fun n hn => by
      rw [hn]
      exact ⟨by rw [e8]; exact RT.k, by rw [e8]; exact RT.l, by rw [e8]; exact RT.f, by rw [e8]; exact RT.ck, a8, by rw [e8]; exact RT.vi, by rw [e8]; exact RT.ru⟩
    have tM := rnTt_step (lp := lp) (P := isMk) (cu := cu') hk hlt
    have tR := rnTt_step (lp := lp) (P := isRl) (cu := cu') hk hlt
    have sM := rnM_step (V := V) (lp := lp) (P := isMk) hlt
    rw [← ec1, ← ew] at tM tR
    rw [← ew] at sM
    have c1k : c1 k = cu' k + 1 := by rw [ec1, updN_same]
    have c1o : ∀ j, j ≠ k → c1 j = cu' j := fun j hj => by rw [ec1, updN_ne _ _ hj]
    rcases cdw with hm | hr | ⟨c, hc1, hc2, hcw⟩
    · -- a mark
      have w1 : ¬ w < 1000 := by unfold isMk at hm; simpa using hm
      rw [hm, if_pos rfl] at tM sM
      rw [isRl_f1 w1, if_neg (by simp)] at tR
      refine brF w1 (hQ h8 c1 F8 (by rw [e8]; exact tz) (by rw [e8]; exact tc) (by rw [e8]; exact ts) ⟨nv', R8 _ (by omega), by omega⟩ ?_ (by rw [c1k, sM, em]) (fun j hj => by rw [c1o j (by omega)]; exact eo j hj))
      rw [ec1]
      exact MT.step hlt kidk (fun c _ _ => by rw [← ew]; exact isCh_f (fun hh => w1 (Int32.lt_trans hh (by decide))))
    · -- a rule
      have w1 : w < 1000 ∧ ¬ w < 100 := by unfold isRl at hr; simpa using hr
      rw [isMk_f w1.1, if_neg (by simp)] at tM sM
      rw [hr, if_pos rfl] at tR
      refine brT w1.1 (brF w1.2 ?_)
      intro h18 e18
      have ru8 : h8.fi 1802 x = I (rnTt V lp isRl cu') := (R8 _ rfl).ru
      rw [ru8, show I (rnTt V lp isRl cu') + 1 = I (rnTt V lp isRl cu' + 1) from I_add _ 1, ← tR] at e18
      have R9 : RnR h18.c V x c1 nv' (rnTt V lp isRl c1) := by
        have Z := R8 _ rfl
        refine ⟨by rw [e18]; exact Z.k, by rw [e18]; exact Z.l, by rw [e18]; exact Z.f, by rw [e18]; exact Z.ck, by rw [e18]; exact Z.a, ?_, ?_⟩
        · show h18.fi 1801 x = _
          rw [e18, sfi_ne _ _ _ _ (by decide)]; exact Z.vi
        · show h18.fi 1802 x = _
          rw [e18, sfi_same]
      refine hK _ h18 hi' ⟨c1, nv', by rw [e18]; exact F8.sfi _ (fun hh => by omega), by rw [e18, e8]; exact tz, by rw [e18, e8]; exact tc, by rw [e18, e8]; exact ts, R9, by omega, ?_, by omega, by rw [c1k, sM, em]; rfl, fun j hj => by rw [c1o j (by omega)]; exact eo j hj⟩
      rw [ec1]
      exact MT.step hlt kidk (fun c _ _ => by rw [← ew]; exact isCh_f w1.2)
    · -- a child's visit
      have w1 : w < 100 ∧ w / 10 = I c := by unfold isCh at hcw; simpa using hcw
      have w2 : w < 1000 := Int32.lt_trans w1.1 (by decide)
      rw [isMk_f w2, if_neg (by simp)] at tM sM
      rw [isRl_f2 w1.1, if_neg (by simp)] at tR
      refine brT w2 (brT w1.1 ?_)
      rw [w1.2]
      have T8 := R0.w0 F8
      refine px_at (h := h8.srm 0 0) T8 WF hk hc2 (by omega) (pu ?_)
      have eat : V.atP k c = V.kd k c := by unfold Tv.atP; exact if_neg (by omega)
      rw [eat]
      obtain ⟨j, ej⟩ : ∃ j, j = V.kd k c := ⟨_, rfl⟩
      have kk := K.kid (i := k) (j := c) hk hc1 hc2
      rw [← ej] at kk ⊢
      obtain ⟨k1, k2, k3, k4, k5, k6, k7, k8⟩ := kk
      have sC := rnM_step (V := V) (lp := lp) (P := isCh c) hlt
      rw [← ew, hcw, if_pos rfl] at sC
      have rel := MT.r k c (Nat.le_refl _) (by omega) hc1 hc2
      rw [← ej] at rel
      have vsj : A.g.vs ind (V.sm A.g j) = pcn (isCh c) (lp (V.pd k)) := by
        rw [PL.ch _ c hp hc1 hc2, ← k6]; rfl
      have R8' := R8 _ (show rnTt V lp isRl c1 = rnTt V lp isRl cu' by omega)
      refine ⟨nn_of rfl R8'.k, ?_⟩
      have L1 : RnL V A.g lp c1 j (j + sz j) := by
        refine ⟨fun q h1 h2 => by rw [c1o q (by omega)]; exact MT.b q (by omega) (by omega), fun q c' h1 h2 h3 h4 => ?_⟩
        have := kidk q c' (by omega) (by omega) h3 h4
        rw [c1o q (by omega), c1o _ (by omega)]
        exact MT.r q c' (by omega) (by omega) h3 h4
      refine px_goes18 K C0 R0 hx PL pl d j (h8.srm 0 0) c1 (e + 1) _ k8 (by omega) F8 ⟨nv', R8', by omega⟩ L1 ?_ ?_
      · rw [c1o j (by omega), rel, vsj]
        have := pcn_le (isCh c) (lp (V.pd k)) (cu' k + 1)
        unfold rnM at sC ⊢
        omega
      · intro h' cu2 F' z' c' r' hR' L2 m2 o2 h17 e17
        obtain ⟨nv2, R2', env2⟩ := hR'
        have c2k : cu2 k = c1 k := o2 k (.inl k1)
        refine hK _ h17 hi' ⟨cu2, nv2, by rw [e17]; exact F', by rw [e17]; exact z'.trans (by rw [e8]; exact tz), by rw [e17, e8]; exact tc, by rw [e17, e8]; exact ts, by rw [e17]; exact R2', env2, ?_, by rw [c2k, c1k]; omega, by rw [c2k, c1k, sM, em]; rfl, fun q hq => by rw [o2 q (by omega), c1o q (by omega)]; exact eo q hq⟩
        refine ⟨fun q h1 h2 => ?_, fun q c' h1 h2 h3 h4 => ?_⟩
        · by_cases hin : j ≤ q ∧ q < j + sz j
          · exact L2.b q hin.1 hin.2
          · rw [o2 q (by omega)]
            by_cases e : q = k
            · rw [e, c1k]; omega
            · rw [c1o q e]; exact MT.b q h1 h2
        · by_cases hin : j ≤ q ∧ q < j + sz j
          · exact L2.r q c' hin.1 hin.2 h3 h4
          rw [o2 q (by omega)]
          have hqn : q < V.n := by omega
          have kq := K.kid (i := q) (j := c') hqn h3 h4
          obtain ⟨y1, y2, y3, y4, y5, y6, y7, y8⟩ := kq
          by_cases hin2 : j ≤ V.kd q c' ∧ V.kd q c' < j + sz j
          · have e9 : V.kd q c' = j := by
              rcases Nat.lt_or_ge j (V.kd q c') with l | l
              · obtain ⟨⟨q2, b1, b2⟩, _⟩ := K.sub (V.n + 1) j (V.kd q c') (by omega) k8 l hin2.2
                rw [y4] at b1
                have := Option.some.inj b1
                omega
              · omega
            rw [e9] at y4 y5 ⊢
            rw [k4] at y4
            rw [k5] at y5
            have eq : k = q := Option.some.inj y4
            rw [← eq, ← y5, m2, c1k, sC, c1o j (by omega), rel]
          · rw [o2 _ (by omega), c1o _ (by have := kidk q c' h1 h2 h3 h4; omega), MT.r q c' h1 h2 h3 h4]
            by_cases e : q = k
            · rw [e] at h4 hin2 ⊢
              rw [c1k, rnM_step hlt, ← ew]
              have hne : c' ≠ c := fun hh => by
                rw [hh, ← ej] at hin2
                have := (K.ends k8).1
                omega
              have kn3' := C0.W.kn _ hp
              have : isCh c' w = false := by
                cases hb : isCh c' w with
                | false => rfl
                | true => exact absurd (isCh_one (by omega) (by omega) hb hcw) hne
              rw [this, if_neg (by simp)]
              rfl
            · rw [c1o q e]
end
