/-! plain: tr2 -/
set_option maxRecDepth 100000
section
variable {T : TS} {tp : Nat → Nat} {n : Nat} {t : Tk} {A : PG} {c : Nat}

abbrev LsN : List Nat := [211, 212, 213, 214, 215, 216, 217, 251]
/-- nodes as the twin reads them. -/
def TwD (T : TS) (P : PT) : Prop :=
  (T.s 251 = I P.V.n) ∧
  (∀ k, k < P.V.n → T.a 22 k = I (P.V.pd k)) ∧
  (∀ k, k < P.V.n → T.a 23 k = P.V.nu k) ∧
  (∀ k, k < P.V.n → T.a 24 k = oI (P.V.pa k))
theorem TwD.m {T : TS} {P : PT} (h9 : TwD T P) : T.s 251 = I P.V.n := h9.1
theorem TwD.pd {T : TS} {P : PT} (h9 : TwD T P) : ∀ k, k < P.V.n → T.a 22 k = I (P.V.pd k) := h9.2.1
theorem TwD.nu {T : TS} {P : PT} (h9 : TwD T P) : ∀ k, k < P.V.n → T.a 23 k = P.V.nu k := h9.2.2.1
theorem TwD.pa {T : TS} {P : PT} (h9 : TwD T P) : ∀ k, k < P.V.n → T.a 24 k = oI (P.V.pa k) := h9.2.2.2
theorem TwD.go {U : TS} {P : PT} (Z : TwD T P) (F : Tcw [] [211, 212, 213, 214, 215, 216, 217] [] T U) : TwD U P :=
  ⟨(F.s _ (by decide)).trans Z.m, by rw [F.a _ (by decide)]; exact Z.pd, by rw [F.a _ (by decide)]; exact Z.nu, by rw [F.a _ (by decide)]; exact Z.pa⟩
/-- what of a grammar a tree's reading asks. -/
def TwJ (T : TS) (A : PG) : Prop :=
  (TG (T.a 1) A.g) ∧
  (∀ p, p < A.g.nP → TwN T 3 (8 + p) (A.pn p))
theorem TwJ.g {T : TS} {A : PG} (h9 : TwJ T A) : TG (T.a 1) A.g := h9.1
theorem TwJ.pn {T : TS} {A : PG} (h9 : TwJ T A) : ∀ p, p < A.g.nP → TwN T 3 (8 + p) (A.pn p) := h9.2
theorem TwJ.go {U : TS} {S : List Nat} (Z : TwJ T A) (F : Tcw [22, 23, 24] S [] T U) : TwJ U A := ⟨by rw [F.a 1 (by decide)]; exact Z.g, fun p hp => by unfold TwN; rw [F.l 3 (by decide)]; exact Z.pn p hp⟩

theorem pt_readNode (W : A.g.WF) {oth : Nat} : ∀ (f : Nat) (need : Option Nat) (dp : Nat) (pa : Option Nat) (pl : Nat) (P : PT) (t : Tk) (T : TS) (Q : Int32 → TS → Prop), 13 ≤ dp + f → dp ≤ 12 → (∀ s, need = some s → s < A.g.nS) → TwJ T A → T.s 252 = I oth → oth + P.V.n ≤ 40 → TwD T P → TwT T tp n t →
    (∀ U P' t', pNd tp n A oth f need dp pa pl P t = .ok (P', t') → Tcw [22, 23, 24] LsN [] T U → TwD U P' → TwT U tp n t' → Q 1 U) → (∀ U f', pNd tp n A oth f need dp pa pl P t = .error f' → Tcw [22, 23, 24] LsN [] T U → TwF U f' → Q 0 U) → wp_X1_readNode f (oI need) (I (dp + 1)) (oI pa) T Q
  | 0, _, dp, _, _, _, _, _, _, hf, hd, _, _, _, _, _, _, _, _ => absurd hf (by omega)
  | f + 1, need, dp, pa, pl, P, t, T, Q, hf, hd, hneed, H, h252, h40, Z, K, h1, h2 => by
    have hP := W.nP
    have hS := W.nS
    generalize hR : pNd tp n A oth (f + 1) need dp pa pl P t = R at h1 h2
    have err : ∀ (V : TS) (t' : Tk) (k : Nat), Tcw [22, 23, 24] LsN [] T V → TwT V tp n t' → .error (bad t' k) = R → k < 10 → wp_X1_bad (I k) V (fun r U => bz r ∧ Q r U) := by
      intro V t' k FV KV hR' hk
      refine pt_bad KV hk ?_
      intro U F f
      exact ⟨.inl rfl, h2 U _ hR'.symm (FV.trans (F.mono (by decide) (by decide) (by decide))) f⟩
    unfold pNd at hR
    unfold wp_X1_readNode
    refine pt_isName K ?_
    by_cases hn : isNm tp t = true
    rotate_left
    · rw [if_neg hn] at hR ⊢
      exact brT rfl (err T _ 2 (Tcw.refl T) K hR (by decide))
    rw [if_pos hn] at hR ⊢
    have hk2 := (isNm_iff.1 hn).1
    refine brF (by decide) ⟨tix_I (k := 1) rfl (by decide) (by decide), ?_⟩
    rw [show ni 1 = 1 from rfl, H.g.nP, K.wd hk2]
    refine pt_findIn (r := 3) (b := 8) (f := A.pn) ⟨.inl rfl, by omega⟩ (fun k hk => H.pn k hk) (K.wl hk2) ?_
    cases hfd : fdN A.pn A.g.nP (wrd tp t) with
    | none =>
      rw [hfd] at hR
      exact brT rfl (err T _ 3 (Tcw.refl T) K hR (by decide))
    | some p =>
    rw [hfd] at hR
    dsimp only at hR
    have hp := fdN_lt hfd
    have hK3 := W.kn p hp
    refine brF (I_neg1_ne (by omega)) ?_
    rw [show oI (some p) = I p from rfl, h252, Z.m]
    by_cases h9 : oth + P.V.n = 40
    · rw [if_pos (.inl h9)] at hR
      refine brT (by rw [I_add, h9]; rfl) (err T _ 6 (Tcw.refl T) K hR (by decide))
    refine brF (fun hh => h9 ?_) ?_
    · rw [I_add] at hh
      exact (eq_L 40 (by decide) (by omega)).1 hh
    by_cases h12 : 12 ≤ dp
    · rw [if_pos (.inr h12)] at hR
      exact brF (by (first | omega | ((try simp (disch := omega) only [L_le, le_L, L_lt, lt_L, eq_L, L_eq, I_le, I_lt, I_eq, I_ni, add_L, L_add, I_add, mul_L, L_mul, I_mul, sub_L, L_sub, I_sub, div_L, rem_L]); done) | ((try simp (disch := omega) only [L_le, le_L, L_lt, lt_L, eq_L, L_eq, I_le, I_lt, I_eq, I_ni, add_L, L_add, I_add, mul_L, L_mul, I_mul, sub_L, L_sub, I_sub, div_L, rem_L]); omega))) (err T _ 6 (Tcw.refl T) K hR (by decide))
    rw [if_neg (by omega)] at hR
    refine brT (by (first | omega | ((try simp (disch := omega) only [L_le, le_L, L_lt, lt_L, eq_L, L_eq, I_le, I_lt, I_eq, I_ni, add_L, L_add, I_add, mul_L, L_mul, I_mul, sub_L, L_sub, I_sub, div_L, rem_L]); done) | ((try simp (disch := omega) only [L_le, le_L, L_lt, lt_L, eq_L, L_eq, I_le, I_lt, I_eq, I_ni, add_L, L_add, I_add, mul_L, L_mul, I_mul, sub_L, L_sub, I_sub, div_L, rem_L]); omega))) ?_
    have hn39 : P.V.n < 40 := by omega
    (try simp (disch := omega) only [L_le, le_L, L_lt, lt_L, eq_L, L_eq, I_le, I_lt, I_eq, I_ni, add_L, L_add, I_add, mul_L, L_mul, I_mul, sub_L, L_sub, I_sub, div_L, rem_L])
    generalize hu : (if (nxt tp n t).kd = 3 then (nxt tp n t).nu else 0) = u at hR
    generalize htk : (if (nxt tp n t).kd = 3 then nxt tp n (nxt tp n t) else nxt tp n t) = tk at hR
    -- a node, and its children
    have blk : ¬ (need ≠ none ∧ need ≠ some (A.g.sy p 0)) → ∀ T12, T12 = T.ss 251 (I (P.V.n + 1)) → tix 22 40 (I P.V.n) ∧ ∀ T13, T13 = T12.sa 22 P.V.n (I p) → tix 24 40 (I P.V.n) ∧ ∀ T14, T14 = T13.sa 24 P.V.n (oI pa) → tix 23 40 (I P.V.n) ∧ ∀ T15, T15 = T14.sa 23 P.V.n 0 → wp_X1_go T15 fun T16 =>
        tjn (α := Unit) (fun J19 => ((T16.s 213 = 3 → tix 23 40 (I P.V.n) ∧ ∀ T21, T21 = T16.sa 23 P.V.n (T16.s 214) → wp_X1_go T21 fun T22 => J19 () T22) ∧ (¬ T16.s 213 = 3 → J19 () T16))) (fun x24 T25 =>
        tlp (σ := Int32) (fun s26 T27 k26 => tix 1 40 (I (32 + p)) ∧ ((T27.a 1 (32 + p) ≤ s26 → tix 1 40 (I (32 + p)) ∧ ((T27.a 1 (32 + p) = 0 → Q 1 T27) ∧ (¬ T27.a 1 (32 + p) = 0 → wp_X1_eats 41 T27 fun r31 T30 => ∀ m32 : Int32, m32 = (if r31 = 0 then 0 else 1) → bz m32 ∧ Q m32 T30))) ∧
          (¬ T27.a 1 (32 + p) ≤ s26 → ∀ m35 : Int32, m35 = (if s26 = 0 then 40 else 44) → wp_X1_eats m35 T27 fun r38 T37 => ((r38 = 0 → Q 0 T37) ∧ (¬ r38 = 0 → tix 1 40 (I (44 + 3 * p) + s26) ∧ wp_X1_readNode f (T37.a 1 (ni (I (44 + 3 * p) + s26))) (I (dp + 1 + 1)) (I P.V.n) T37 fun r41 T40 => ((r41 = 0 → Q 0 T40) ∧ (¬ r41 = 0 → k26 (s26 + 1) T40))))))) 0 T25) := by
      intro hnd
      rw [if_neg hnd] at hR
      intro U1 hU1
      refine ⟨tix_I rfl hn39 (by decide), ?_⟩
      intro U2 hU2
      refine ⟨tix_I rfl hn39 (by decide), ?_⟩
      intro U3 hU3
      refine ⟨tix_I rfl hn39 (by decide), ?_⟩
      intro U4 hU4
      have F4 : Tcw [22, 23, 24] [251] [] T U4 := by rw [hU4, hU3, hU2, hU1]; exact ((((Tcw.refl T).ss (by decide) _).sa (by decide) _ _).sa (by decide) _ _).sa (by decide) _ _
      have K4 : TwT U4 tp n t := K.keep F4 (by rw [hU4, hU3, hU2, hU1]; rfl) (by decide) (by decide)
      have a22 : U4.a 22 = updN (T.a 22) P.V.n (I p) := by rw [hU4, sa_off _ (by decide), hU3, sa_off _ (by decide), hU2, sa_at, hU1]; rfl
      have a24 : U4.a 24 = updN (T.a 24) P.V.n (oI pa) := by rw [hU4, sa_off _ (by decide), hU3, sa_at, hU2, sa_off _ (by decide), hU1]; rfl
      have a23 : U4.a 23 = updN (T.a 23) P.V.n 0 := by rw [hU4, sa_at, hU3, sa_off _ (by decide), hU2, sa_off _ (by decide), hU1]; rfl
      have s251 : U4.s 251 = I (P.V.n + 1) := by
        rw [hU4, sa_sc, hU3, sa_sc, hU2, sa_sc, hU1, ss_s, if_pos rfl]
      have D4 : ∀ (V : TS) (x : Nat), V.s 251 = I (P.V.n + 1) → V.a 22 = U4.a 22 → V.a 24 = U4.a 24 → V.a 23 = updN (T.a 23) P.V.n (I x) → TwD V (P.add p x pa pl dp) := fun V x e1 e2 e3 e4 => by
        refine ⟨e1, fun k hk => ?_, fun k hk => ?_, fun k hk => ?_⟩
        · have hk' : k < P.V.n + 1 := hk
          rw [e2, a22]
          show _ = I (updN P.V.pd P.V.n p k)
          by_cases ek : k = P.V.n
          · rw [ek, updN_same, updN_same]
          · rw [updN_ne _ _ ek, updN_ne _ _ ek]; exact Z.pd k (by omega)
        · have hk' : k < P.V.n + 1 := hk
          rw [e4]
          show _ = updN P.V.nu P.V.n (I x) k
          by_cases ek : k = P.V.n
          · rw [ek, updN_same, updN_same]
          · rw [updN_ne _ _ ek, updN_ne _ _ ek]; exact Z.nu k (by omega)
        · have hk' : k < P.V.n + 1 := hk
          rw [e3, a24]
          show _ = oI (updN P.V.pa P.V.n pa k)
          by_cases ek : k = P.V.n
          · rw [ek, updN_same, updN_same]
          · rw [updN_ne _ _ ek, updN_ne _ _ ek]; exact Z.pa k (by omega)
      refine pt_nxt K4 ?_
      intro U5 F5 K5
      have F5' : Tcw [22, 23, 24] LsN [] T U5 := (F4.mono (by decide) (by decide) (by decide)).trans (F5.mono (by decide) (by decide) (by decide))
      refine ⟨fun _ V => Tcw [22, 23, 24] LsN [] T V ∧ TwD V (P.add p u pa pl dp) ∧ TwT V tp n tk, ?_, ?_⟩
      · rw [K5.kd]
        have h5 := K5.k5
        by_cases hk3 : (nxt tp n t).kd = 3
        · rw [if_pos hk3] at hu htk
          refine brT (by rw [hk3]; rfl) ⟨tix_I rfl hn39 (by decide), ?_⟩
          rw [K5.nu hk3, hu]
          intro U6 hU6
          have F6 : Tcw [23] [] [] U5 U6 := by rw [hU6]; exact (Tcw.refl U5).sa (by decide) _ _
          have K6 : TwT U6 tp n (nxt tp n t) := K5.keep F6 (by rw [hU6]; rfl) (by decide) (by decide)
          refine pt_nxt K6 ?_
          intro U7 F7 K7
          rw [htk] at K7
          refine ⟨(F5'.trans (F6.mono (by decide) (by decide) (by decide))).trans (F7.mono (by decide) (by decide) (by decide)), ?_, K7⟩
          refine D4 U7 u ?_ ?_ ?_ ?_
          · rw [F7.s _ (by decide), F6.s _ (by decide), F5.s _ (by decide)]; exact s251
          · rw [F7.a _ (by decide), F6.a _ (by decide), F5.a _ (by decide)]
          · rw [F7.a _ (by decide), F6.a _ (by decide), F5.a _ (by decide)]
          · rw [F7.a _ (by decide), hU6, sa_at, F5.a _ (by decide), a23]
            funext k
            by_cases ek : k = P.V.n
            · rw [ek, updN_same, updN_same]
            · rw [updN_ne _ _ ek, updN_ne _ _ ek, updN_ne _ _ ek]
        · rw [if_neg hk3] at hu htk
          refine brF (fun hh => hk3 ((eq_L 3 (by decide) (by omega)).1 hh)) ⟨F5', ?_, by rw [← htk]; exact K5⟩
          refine D4 U5 u ?_ ?_ ?_ ?_
          · rw [F5.s _ (by decide)]; exact s251
          · rw [F5.a _ (by decide)]
          · rw [F5.a _ (by decide)]
          · rw [F5.a _ (by decide), a23, ← hu]; rfl
      intro _ V hV
      obtain ⟨FV, DV, KV⟩ := hV
      refine tlp_cnt (A.g.kn p) (fun j s V => s = I j ∧ ∃ P2 t2, Tcw [22, 23, 24] LsN [] T V ∧ TwD V P2 ∧ TwT V tp n t2 ∧ oth + P2.V.n ≤ 40 ∧ pKs tp n A p P.V.n dp (pNd tp n A oth f) (A.g.kn p - j) j P2 t2 = R) ⟨rfl, _, _, FV, DV, KV, by show oth + (P.V.n + 1) ≤ 40; omega, hR⟩ ?_
      clear FV DV KV V hR
      intro j s V KK hj hh hKK
      obtain ⟨hs, P2, t2, FV, DV, KV, h40', hR⟩ := hh
      rw [hs]
      clear hs s
      have HV := H.go FV
      refine ⟨tix_I rfl (by show _ < 3816; omega) (by decide), ?_⟩
      rw [HV.g.kn p hp]
      by_cases ej : j = A.g.kn p
      · refine brT (by (first | omega | ((try simp (disch := omega) only [L_le, le_L, L_lt, lt_L, eq_L, L_eq, I_le, I_lt, I_eq, I_ni, add_L, L_add, I_add, mul_L, L_mul, I_mul, sub_L, L_sub, I_sub, div_L, rem_L]); done) | ((try simp (disch := omega) only [L_le, le_L, L_lt, lt_L, eq_L, L_eq, I_le, I_lt, I_eq, I_ni, add_L, L_add, I_add, mul_L, L_mul, I_mul, sub_L, L_sub, I_sub, div_L, rem_L]); omega))) ⟨tix_I rfl (by show _ < 3816; omega) (by decide), ?_⟩
        rw [ej, Nat.sub_self] at hR
        unfold pKs at hR
        by_cases h0 : A.g.kn p = 0
        · rw [if_pos h0] at hR
          refine brT (by rw [h0]; rfl) ?_
          exact h1 V _ _ hR.symm FV ⟨DV.m, DV.pd, DV.nu, DV.pa⟩ KV
        · rw [if_neg h0] at hR
          refine brF (fun hh => h0 ((eq_L 0 (by decide) (by omega)).1 hh)) ?_
          refine pt_eats KV (c := 41) (by decide) ?_ ?_
          · intro V2 t3 F2 e2 K2 m hm
            rw [e2] at hR
            rw [if_neg (by decide)] at hm
            rw [hm]
            have D2 := DV.go (F2.mono (by decide) (by decide) (by decide))
            exact ⟨.inr rfl, h1 V2 _ _ hR.symm (FV.trans (F2.mono (by decide) (by decide) (by decide))) ⟨D2.m, D2.pd, D2.nu, D2.pa⟩ K2⟩
          · intro V2 f' F2 e2 g2 m hm
            rw [e2] at hR
            rw [if_pos rfl] at hm
            rw [hm]
            exact ⟨.inl rfl, h2 V2 f' hR.symm (FV.trans (F2.mono (by decide) (by decide) (by decide))) g2⟩
      have hj' : j < A.g.kn p := by omega
      refine brF (by (first | omega | ((try simp (disch := omega) only [L_le, le_L, L_lt, lt_L, eq_L, L_eq, I_le, I_lt, I_eq, I_ni, add_L, L_add, I_add, mul_L, L_mul, I_mul, sub_L, L_sub, I_sub, div_L, rem_L]); done) | ((try simp (disch := omega) only [L_le, le_L, L_lt, lt_L, eq_L, L_eq, I_le, I_lt, I_eq, I_ni, add_L, L_add, I_add, mul_L, L_mul, I_mul, sub_L, L_sub, I_sub, div_L, rem_L]); omega))) ?_
      intro m hm
      have hm' : m = I (if j = 0 then 40 else 44) := by
        rw [hm]
        by_cases h0 : j = 0
        · rw [if_pos (by rw [h0]; rfl), if_pos h0]; rfl
        · rw [if_neg (fun hh => h0 ((eq_L 0 (by decide) (by omega)).1 hh)), if_neg h0]; rfl
      rw [hm']
      clear hm hm' m
      rw [show A.g.kn p - j = (A.g.kn p - (j + 1)) + 1 by omega] at hR
      unfold pKs at hR
      refine pt_eats KV (c := if j = 0 then 40 else 44) (by split <;> decide) ?_ ?_
      rotate_left
      · intro V2 f' F2 e2 g2
        rw [e2] at hR
        exact brT rfl (h2 V2 f' hR.symm (FV.trans (F2.mono (by decide) (by decide) (by decide))) g2)
      intro V2 t3 F2 e2 K2
      rw [e2] at hR
      dsimp only at hR
      have F2' : Tcw [22, 23, 24] LsN [] T V2 := FV.trans (F2.mono (by decide) (by decide) (by decide))
      have D2 := DV.go (F2.mono (by decide) (by decide) (by decide))
      have H2 := H.go F2'
      refine brF (by decide) ?_
      (try simp (disch := omega) only [L_le, le_L, L_lt, lt_L, eq_L, L_eq, I_le, I_lt, I_eq, I_ni, add_L, L_add, I_add, mul_L, L_mul, I_mul, sub_L, L_sub, I_sub, div_L, rem_L])
      refine ⟨tix_I rfl (by show _ < 3816; omega) (by decide), ?_⟩
      rw [H2.g.kid p j hp hj']
      have hsy := W.sy p (j + 1) hp (by omega)
      refine pt_readNode W f (some (A.g.sy p (j + 1))) (dp + 1) (some P.V.n) (j + 1) (P2.kid P.V.n (j + 1)) t3 V2 _ (by omega) (by omega) (fun s hs => by have := Option.some.inj hs; omega) H2 ((F2'.s 252 (by decide)).trans h252) h40' ⟨D2.m, D2.pd, D2.nu, D2.pa⟩ K2 ?_ ?_
      · intro V3 P3 t4 e3 F3 D3 K3
        rw [e3] at hR
        have R3 := pNd_ok W f _ _ _ _ (P2.kid P.V.n (j + 1)) t3 P3 t4 h40' e3
        exact brF (by decide) (hKK _ _ hj' ⟨rfl, P3, t4, F2'.trans F3, D3, K3, R3.le, hR⟩)
      · intro V3 f' e3 F3 g3
        rw [e3] at hR
        exact brT rfl (h2 V3 f' hR.symm (F2'.trans F3) g3)
    cases hnd : need with
    | none =>
      refine brT rfl (blk (fun hh => hh.1 hnd))
    | some s =>
      have hs := hneed s hnd
      have hl := W.sy p 0 hp (Nat.zero_le _)
      refine brF (I_neg1_ne (by omega)) ⟨tix_I rfl (by show _ < 3816; omega) (by decide), ?_⟩
      rw [H.g.left p hp, show oI (some s) = I s from rfl]
      by_cases hsm : A.g.sy p 0 = s
      · refine brT (by rw [hsm]) (blk (fun hh => hh.2 (by rw [hnd, hsm])))
      · refine brF (fun hh => hsm ((I_eq (by omega) (by omega)).1 hh)) ?_
        rw [hnd, if_pos ⟨by simp, fun hh => hsm (Option.some.inj hh).symm⟩] at hR
        exact err T _ 7 (Tcw.refl T) K hR (by decide)
end
