/-! plain: ps7 -/
set_option maxRecDepth 100000
section
variable {T T0 : TS} {tp : Nat → Nat} {n : Nat} {t : Tk} {A : PG} {c : Nat}

theorem TG.eq3 {a b : Nat → Int32} {G : Gv} (K : TG a G) (W : G.WF) (h : ∀ i, i ≠ 2 → i ≠ 3 → i < 80 ∨ (848 ≤ i ∧ i < 1232) → b i = a i) : TG b G := by
  have hP := W.nP
  have hS := W.nS
  refine ⟨?_, ?_, fun s hs => ?_, fun s hs => ?_, fun p hp => ?_, fun p hp => ?_, fun p k hp hk => ?_, fun p o hp ho => ?_⟩
  · rw [h 0 (by omega) (by omega) (by omega)]; exact K.nS
  · rw [h 1 (by omega) (by omega) (by omega)]; exact K.nP
  · rw [h (4 + s) (by omega) (by omega) (by omega)]; exact K.ins s hs
  · rw [h (12 + s) (by omega) (by omega) (by omega)]; exact K.outs s hs
  · rw [h (20 + p) (by omega) (by omega) (by omega)]; exact K.left p hp
  · rw [h (32 + p) (by omega) (by omega) (by omega)]; exact K.kn p hp
  · have := W.kn p hp
    rw [h (44 + 3 * p + k) (by omega) (by omega) (by omega)]; exact K.kid p k hp hk
  · rw [h (848 + 32 * p + o) (by omega) (by omega) (by omega)]; exact K.ask p o hp ho

/-- a rule is told. -/
theorem TwG.addR {V V9 : TS} {p o q : Nat} {e : Ex} (Y : TwG T 2 4 A c) (hp : p < A.g.nP) (ht : A.g.tl p o) (hn : A.g.rl p o = none) (E : exK A p e 0 q) (hc : c + e.length ≤ 1100)
    (hT0 : T0.a 2 = updN (T.a 2) (80 + 32 * p + o) (I c)) (hl0 : T0.l 4 = T.l 4) (Z : TwV T0 V c e q (Ex.asks e)) (h9 : V9.a 2 = updN (updN (updN (updN (V.a 2) (464 + 32 * p + o) (I (c + e.length))) (848 + 32 * p + o) (Ex.asks e)) (1232 + 32 * p + o) 1) 2 (I (nRl A.g + 1))) (hl9 : V9.l 4 = V.l 4) : TwG V9 2 4 (A.addR p o e) (c + e.length) := by
  have hP := Y.w.nP
  have ho := ht.1.1
  have hlV : V9.l 4 = T.l 4 := by rw [hl9, Z.F.l 4 (by decide), hl0]
  have up : ∀ i, i ≠ 2 → i ≠ 3 → i ≠ 80 + 32 * p + o → i ≠ 464 + 32 * p + o → i ≠ 848 + 32 * p + o → i ≠ 1232 + 32 * p + o → i < 1616 + c ∨ (2716 ≤ i ∧ i < 2716 + c) → V9.a 2 i = T.a 2 i := by
    intro i i1 i2 i3 i4 i5 i6 i7
    rw [h9, updN_ne _ _ i1, updN_ne _ _ i6, updN_ne _ _ i5, updN_ne _ _ i4, Z.a i i2 i7, hT0, updN_ne _ _ i3]
  have w := E.addR Y.w Y.rl ht
  have e80 : V9.a 2 (80 + 32 * p + o) = I c := by
    rw [h9, updN_ne _ _ (by omega), updN_ne _ _ (by omega), updN_ne _ _ (by omega), updN_ne _ _ (by omega), Z.a _ (by omega) (by omega), hT0, updN_same]
  have e464 : V9.a 2 (464 + 32 * p + o) = I (c + e.length) := by
    rw [h9, updN_ne _ _ (by omega), updN_ne _ _ (by omega), updN_ne _ _ (by omega), updN_same]
  have e848 : V9.a 2 (848 + 32 * p + o) = Ex.asks e := by
    rw [h9, updN_ne _ _ (by omega), updN_ne _ _ (by omega), updN_same]
  have e1232 : V9.a 2 (1232 + 32 * p + o) = 1 := by
    rw [h9, updN_ne _ _ (by omega), updN_same]
  have rlo : ∀ p' o', ¬ (p' = p ∧ o' = o) → (A.addR p o e).g.rl p' o' = A.g.rl p' o' := fun p' o' hne => by
    show updN A.g.rl p (updN (A.g.rl p) o (some e)) p' o' = _
    by_cases e1 : p' = p
    · rw [e1, updN_same, updN_ne _ _ (fun e2 => hne ⟨e1, e2⟩)]
    · rw [updN_ne _ _ e1]
  have rls : (A.addR p o e).g.rl p o = some e := by
    show updN A.g.rl p (updN (A.g.rl p) o (some e)) p o = _
    rw [updN_same, updN_same]
  refine ⟨⟨?_, ?_, fun s hs => ?_, fun s hs => ?_, fun p' hp' => ?_, fun p' hp' => ?_, fun p' j hp' hj => ?_, fun p' o' hp' ho' => ?_⟩, ⟨fun p' o' hp' ho' he => ?_, fun p' o' e' hp' ho' he => ?_⟩, ?_, ?_, fun s hs => ?_, fun p' hp' => ?_, fun s a hs ha => ?_, w.1, w.2, fun p' o' e' f hp' ho' he hf hx => ?_⟩
  · rw [up 0 (by omega) (by omega) (by omega) (by omega) (by omega) (by omega) (by omega)]; exact Y.g.nS
  · rw [up 1 (by omega) (by omega) (by omega) (by omega) (by omega) (by omega) (by omega)]; exact Y.g.nP
  · have hs' : s < A.g.nS := hs
    have := Y.w.nS
    rw [up _ (by omega) (by omega) (by omega) (by omega) (by omega) (by omega) (by omega)]; exact Y.g.ins s hs
  · have hs' : s < A.g.nS := hs
    have := Y.w.nS
    rw [up _ (by omega) (by omega) (by omega) (by omega) (by omega) (by omega) (by omega)]; exact Y.g.outs s hs
  · have hp2 : p' < A.g.nP := hp'
    rw [up _ (by omega) (by omega) (by omega) (by omega) (by omega) (by omega) (by omega)]; exact Y.g.left p' hp'
  · have hp2 : p' < A.g.nP := hp'
    rw [up _ (by omega) (by omega) (by omega) (by omega) (by omega) (by omega) (by omega)]; exact Y.g.kn p' hp'
  · have hp2 : p' < A.g.nP := hp'
    have hj2 : j < A.g.kn p' := hj
    have := Y.w.kn p' hp2
    rw [up _ (by omega) (by omega) (by omega) (by omega) (by omega) (by omega) (by omega)]; exact Y.g.kid p' j hp' hj
  · have hp2 : p' < A.g.nP := hp'
    by_cases hne : p' = p ∧ o' = o
    · obtain ⟨e1, e2⟩ := hne
      subst e1
      subst e2
      rw [e848]
      unfold Gv.ask
      rw [rls]
    · unfold Gv.ask
      rw [rlo p' o' hne]
      have := Y.g.ask p' o' hp2 ho'
      unfold Gv.ask at this
      rw [up _ (by omega) (by omega) (by omega) (by omega) (by omega) (by omega) (by omega)]; exact this
  · have hp2 : p' < A.g.nP := hp'
    by_cases hne : p' = p ∧ o' = o
    · rw [hne.1, hne.2, rls] at he
      exact absurd he (by simp)
    · rw [rlo p' o' hne] at he
      rw [up _ (by omega) (by omega) (by omega) (by omega) (by omega) (by omega) (by omega), up _ (by omega) (by omega) (by omega) (by omega) (by omega) (by omega) (by omega), up _ (by omega) (by omega) (by omega) (by omega) (by omega) (by omega) (by omega)]
      exact Y.k.cn p' o' hp2 ho' he
  · have hp2 : p' < A.g.nP := hp'
    by_cases hne : p' = p ∧ o' = o
    · obtain ⟨g1, g2⟩ := hne
      subst g1
      subst g2
      rw [rls] at he
      have := Option.some.inj he
      subst this
      refine ⟨c, e80, e464, e1232, hc, fun i hi => ?_⟩
      obtain ⟨z1, z2⟩ := Z.e i hi
      have hm := E.c _ (getD_mem (0, 0) e i hi)
      refine ⟨?_, ?_, hm.1, hm.2⟩
      · rw [h9, updN_ne _ _ (by omega), updN_ne _ _ (by omega), updN_ne _ _ (by omega), updN_ne _ _ (by omega)]; exact z1
      · rw [h9, updN_ne _ _ (by omega), updN_ne _ _ (by omega), updN_ne _ _ (by omega), updN_ne _ _ (by omega)]; exact z2
    · rw [rlo p' o' hne] at he
      obtain ⟨f, c1, c2, c3, c4, c5⟩ := Y.k.cs p' o' e' hp2 ho' he
      have hcb := Y.cb p' o' e' f hp2 ho' he c4 c1
      refine ⟨f, ?_, ?_, ?_, c4, fun i hi => ?_⟩
      · rw [up _ (by omega) (by omega) (by omega) (by omega) (by omega) (by omega) (by omega)]; exact c1
      · rw [up _ (by omega) (by omega) (by omega) (by omega) (by omega) (by omega) (by omega)]; exact c2
      · rw [up _ (by omega) (by omega) (by omega) (by omega) (by omega) (by omega) (by omega)]; exact c3
      · rw [up _ (by omega) (by omega) (by omega) (by omega) (by omega) (by omega) (by omega), up _ (by omega) (by omega) (by omega) (by omega) (by omega) (by omega) (by omega)]; exact c5 i hi
  · rw [h9, updN_same, nRl_addR hp ho hn]
  · rw [h9, updN_ne _ _ (by omega), updN_ne _ _ (by omega), updN_ne _ _ (by omega), updN_ne _ _ (by omega)]; exact Z.m
  · have hs' : s < A.g.nS := hs
    show TwN V9 4 s (A.sn s)
    unfold TwN
    rw [hlV]; exact Y.sn s hs
  · have hp2 : p' < A.g.nP := hp'
    show TwN V9 4 (8 + p') (A.pn p')
    unfold TwN
    rw [hlV]; exact Y.pn p' hp'
  · have hs' : s < A.g.nS := hs
    show TwN V9 4 (20 + 8 * s + a) (A.an s a)
    unfold TwN
    rw [hlV]; exact Y.an s a hs ha
  · have hp2 : p' < A.g.nP := hp'
    by_cases hne : p' = p ∧ o' = o
    · obtain ⟨g1, g2⟩ := hne
      subst g1
      subst g2
      rw [rls] at he
      have := Option.some.inj he
      subst this
      rw [e80] at hx
      have := (I_eq (by omega) (by omega)).1 hx
      omega
    · rw [rlo p' o' hne] at he
      rw [up _ (by omega) (by omega) (by omega) (by omega) (by omega) (by omega) (by omega)] at hx
      have := Y.cb p' o' e' f hp2 ho' he hf hx
      omega

theorem pt_readRule (K : TwT T tp n t) (Y : TwG T 2 4 A c) (hc : c ≤ t.fr) {Q : Int32 → TS → Prop} (h1 : ∀ U A' t' c', pRl tp n A t = .ok (A', t') → Tcw [2] LsR [4] T U → TwG U 2 4 A' c' → c' ≤ t'.fr → TwT U tp n t' → Q 1 U) (h2 : ∀ U f, pRl tp n A t = .error f → Tcw [2] LsR [4] T U → TwF U f → Q 0 U) : wp_X1_readRule T Q := by
  have hS := Y.w.nS
  have hP := Y.w.nP
  have W := Y.w
  have hn1 := K.p.m
  generalize hR : pRl tp n A t = R at h1 h2
  have err : ∀ (V : TS) (t' : Tk) (k : Nat), Tcw [2] LsR [4] T V → TwT V tp n t' → .error (bad t' k) = R → k < 10 → wp_X1_bad (I k) V (fun r U => bz r ∧ Q r U) := by
    intro V t' k FV KV hR' hk
    refine pt_bad KV hk ?_
    intro U F f
    exact ⟨.inl rfl, h2 U _ hR'.symm (FV.trans (F.mono (by decide) (by decide) (by decide))) f⟩
  unfold pRl at hR
  unfold wp_X1_readRule
  have le1 := isT.le (tp := tp) (n := n) K.k
  refine pt_nxt K ?_
  intro U1 F1 K1
  have F1' : Tcw [2] LsR [4] T U1 := F1.mono (by decide) (by decide) (by decide)
  have Y1 := Y.go (F1.mono (by decide) (by decide) (by decide))
  refine pt_isName K1 ?_
  by_cases hn : isNm tp (nxt tp n t) = true
  rotate_left
  · rw [if_neg hn] at hR ⊢
    exact brT rfl (err U1 _ 2 F1' K1 hR (by decide))
  rw [if_pos hn] at hR ⊢
  have hk2 := (isNm_iff.1 hn).1
  refine brF (by decide) ⟨tix_I (k := 1) rfl (by decide) (by decide), ?_⟩
  rw [show ni 1 = 1 from rfl, Y1.g.nP, K1.wd hk2]
  refine pt_findIn (b := 8) (f := A.pn) ⟨.inr rfl, by omega⟩ (fun k hk => Y1.pn k hk) (K1.wl hk2) ?_
  cases hf : fdN A.pn A.g.nP (wrd tp (nxt tp n t)) with
  | none =>
    rw [hf] at hR
    exact brT rfl (err U1 _ 3 F1' K1 hR (by decide))
  | some p =>
  rw [hf] at hR
  dsimp only at hR
  have hp := fdN_lt hf
  have hK3 := W.kn p hp
  refine brF (I_neg1_ne (by omega)) ?_
  rw [show oI (some p) = I p from rfl]
  have le2 := isT.le (tp := tp) (n := n) K1.k
  refine pt_nxt K1 ?_
  intro U2 F2 K2
  have F2' : Tcw [2] LsR [4] T U2 := F1'.trans (F2.mono (by decide) (by decide) (by decide))
  have Y2 := Y1.go (F2.mono (by decide) (by decide) (by decide))
  unfold pRl2 at hR
  have h5 := K2.k5
  rw [K2.kd]
  by_cases hk3 : (nxt tp n (nxt tp n t)).kd = 3
  rotate_left
  · rw [if_neg hk3] at hR
    exact brF (fun hh => hk3 ((eq_L 3 (by decide) (by omega)).1 hh)) (err U2 _ 2 F2' K2 hR (by decide))
  rw [if_pos hk3] at hR
  have hnu := isT.nu (tp := tp) (n := n) K2.k hk3
  refine brT (by rw [hk3]; rfl) ?_
  rw [K2.nu hk3]
  refine pt_isPosition W (.inr rfl) Y2.g rfl hp (by omega) ?_
  by_cases hpos : (nxt tp n (nxt tp n t)).nu ≤ A.g.kn p
  rotate_left
  · rw [if_neg hpos] at hR ⊢
    exact brT rfl (err U2 _ 3 F2' K2 hR (by decide))
  rw [if_pos hpos] at hR ⊢
  refine brF (by decide) ?_
  have le3 := isT.le (tp := tp) (n := n) K2.k
  refine pt_nxt K2 ?_
  intro U3 F3 K3
  have F3' : Tcw [2] LsR [4] T U3 := F2'.trans (F3.mono (by decide) (by decide) (by decide))
  have Y3 := Y2.go (F3.mono (by decide) (by decide) (by decide))
  rw [K2.nu hk3]
  refine pt_readOccName W hp hpos ⟨Y3.g, Y3.an⟩ K3 ?_ ?_
  rotate_left
  · intro U f e F f'
    rw [e] at hR
    exact brT rfl (h2 U f hR.symm (F3'.trans (F.mono (by decide) (by decide) (by decide))) f')
  intro U4 o t4 e4 F4 K4 s219
  rw [e4] at hR
  dsimp only at hR
  obtain ⟨o1, o2, o3, o4, o5⟩ := pOc_ok W hp hpos K3.k e4
  have ho := o1.1
  have F4' : Tcw [2] LsR [4] T U4 := F3'.trans (F4.mono (by decide) (by decide) (by decide))
  have Y4 := Y3.go (F4.mono (by decide) (by decide) (by decide))
  refine brF (by decide) ?_
  rw [s219]
  refine pt_canTell W (.inr rfl) Y4.g rfl hp o1 ?_
  by_cases htl : A.g.tl p o
  rotate_left
  · rw [if_neg (fun hh => htl hh.1)] at hR
    rw [if_neg htl]
    exact brT rfl (err U4 _ 5 F4' K4 hR (by decide))
  rw [if_pos htl]
  refine brF (by decide) ?_
  (try simp (disch := omega) only [L_le, le_L, L_lt, lt_L, eq_L, L_eq, I_le, I_lt, I_eq, I_ni, add_L, L_add, I_add, mul_L, L_mul, I_mul, sub_L, L_sub, I_sub, div_L, rem_L])
  refine ⟨tix_I rfl (by show _ < 3816; omega) (by decide), ?_⟩
  have r1 : 1232 + (32 * p + o) = 1232 + 32 * p + o := by omega
  have r2 : 80 + (32 * p + o) = 80 + 32 * p + o := by omega
  have r3 : 464 + (32 * p + o) = 464 + 32 * p + o := by omega
  have r4 : 848 + (32 * p + o) = 848 + 32 * p + o := by omega
  rw [r1, r2, r3, r4]
  cases hrl : A.g.rl p o with
  | some e0 =>
    rw [if_neg (fun hh => by rw [hrl] at hh; exact absurd hh.2 (by simp))] at hR
    obtain ⟨f, _, _, c3, _⟩ := Y4.k.cs p o e0 hp ho hrl
    exact brT c3 (err U4 _ 5 F4' K4 hR (by decide))
  | none =>
  rw [if_pos ⟨htl, hrl⟩] at hR
  have c3 := (Y4.k.cn p o hp ho hrl).2.2
  refine brF (by rw [c3]; decide) ?_
  have le4 := isT.le (tp := tp) (n := n) K4.k
  refine pt_nxt K4 ?_
  intro U5 F5 K5
  have F5' : Tcw [2] LsR [4] T U5 := F4'.trans (F5.mono (by decide) (by decide) (by decide))
  have Y5 := Y4.go (F5.mono (by decide) (by decide) (by decide))
  refine pt_eats K5 (c := 61) (by decide) ?_ ?_
  rotate_left
  · intro U f F e f'
    rw [e] at hR
    exact brT rfl (h2 U f hR.symm (F5'.trans (F.mono (by decide) (by decide) (by decide))) f')
  intro U6 t6 F6 e6 K6
  rw [e6] at hR
  dsimp only at hR
  obtain ⟨_, _, g3, g4⟩ := pEat_ok K5.k e6
  have F6' : Tcw [2] LsR [4] T U6 := F5'.trans (F6.mono (by decide) (by decide) (by decide))
  have Y6 := Y5.go (F6.mono (by decide) (by decide) (by decide))
  refine brF (by decide) ?_
  intro U7 hU7 U8 hU8
  have F68 : Tcw [] [220, 221] [] U6 U8 := by rw [hU8, hU7]; exact ((Tcw.refl U6).ss (by decide) _).ss (by decide) _
  have Y8 := Y6.go (F68.mono (by decide) (by decide) (by decide))
  have K8 : TwT U8 tp n t6 := K6.keep F68 (by rw [hU8, hU7]; rfl) (by decide) (by decide)
  refine ⟨tix_I (k := 3) rfl (by decide) (by decide), tix_I rfl (by show _ < 3816; omega) (by decide), ?_⟩
  rw [show ni 3 = 3 from rfl, Y8.m]
  intro U9 hU9
  have F89 : Tcw [2] [] [] U8 U9 := by rw [hU9]; exact (Tcw.refl U8).sa (by decide) _ _
  have F9' : Tcw [2] LsR [4] T U9 := (F6'.trans (F68.mono (by decide) (by decide) (by decide))).trans (F89.mono (by decide) (by decide) (by decide))
  have a9 : U9.a 2 = updN (U8.a 2) (80 + 32 * p + o) (I c) := by rw [hU9, sa_at]
  have K9 : TwT U9 tp n t6 := K8.keep F89 (by rw [hU9]; rfl) (by decide) (by decide)
  have Z9 : TwV U9 U9 c [] 0 (Ex.asks []) := by
    refine ⟨Tcw.refl _, fun _ _ _ => rfl, ?_, fun i hi => absurd hi (Nat.not_lt_zero _), ?_, ?_⟩
    · rw [a9, updN_ne _ _ (by omega)]; exact Y8.m
    · rw [F89.s 220 (by decide), hU8, ss_s, if_neg (by decide), hU7, ss_s, if_pos rfl]; rfl
    · rw [F89.s 221 (by decide), hU8, ss_s, if_pos rfl]; rfl
  have H9 : TwH U9 A := ⟨Y8.g.eq3 W (fun i i1 i2 i3 => by rw [a9, updN_ne _ _ (by omega)]), fun s a hs ha => by unfold TwN; rw [F89.l 4 (by decide)]; exact Y8.an s a hs ha⟩
  refine pt_readSum W hp H9 9 0 (by omega) (by omega) U9 [] 0 t6 _ Z9 K9 (by show c + 0 ≤ t6.fr; omega) (by omega) ?_ ?_
  rotate_left
  · intro V f e FV f'
    rw [e] at hR
    exact brT rfl (h2 V f hR.symm (F9'.trans (FV.mono (by decide) (by decide) (by decide))) f')
  intro V e q t7 e7 ZV KV
  rw [e7] at hR
  rw [List.nil_append] at ZV
  obtain ⟨E, s2, s3, s4⟩ := pSm_ok W hp 9 0 0 t6 K9.k (by omega) e q t7 e7
  have hl7 := KV.l1
  have hl8 := KV.l2
  refine brF (by decide) ⟨tix_I (k := 3) rfl (by decide) (by decide), tix_I rfl (by show _ < 3816; omega) (by decide), ?_⟩
  rw [ZV.m]
  intro V1 hV1
  have k1 : V1.s 221 = Ex.asks e := by rw [hV1]; exact ZV.k
  rw [k1]
  refine ⟨tix_I rfl (by show _ < 3816; omega) (by decide), ?_⟩
  intro V2 hV2
  refine ⟨tix_I rfl (by show _ < 3816; omega) (by decide), ?_⟩
  intro V3 hV3
  have b3 : V3.a 2 = updN (updN (updN (V.a 2) (464 + 32 * p + o) (I (c + e.length))) (848 + 32 * p + o) (Ex.asks e)) (1232 + 32 * p + o) 1 := by rw [hV3, sa_at, hV2, sa_at, hV1, sa_at]
  have z3 : V3.a 2 2 = I (nRl A.g) := by
    rw [b3, updN_ne _ _ (by omega), updN_ne _ _ (by omega), updN_ne _ _ (by omega), ZV.a 2 (by omega) (by omega), a9, updN_ne _ _ (by omega)]; exact Y8.z
  refine ⟨tix_I (k := 2) rfl (by decide) (by decide), tix_I (k := 2) rfl (by decide) (by decide), ?_⟩
  rw [show ni 2 = 2 from rfl, z3]
  (try simp (disch := omega) only [L_le, le_L, L_lt, lt_L, eq_L, L_eq, I_le, I_lt, I_eq, I_ni, add_L, L_add, I_add, mul_L, L_mul, I_mul, sub_L, L_sub, I_sub, div_L, rem_L])
  intro V4 hV4
  have F4V : Tcw [2] [] [] V V4 := by rw [hV4, hV3, hV2, hV1]; exact ((((Tcw.refl V).sa (by decide) _ _).sa (by decide) _ _).sa (by decide) _ _).sa (by decide) _ _
  have YV := TwG.addR (V := V) (V9 := V4) Y8 hp htl hrl E (by omega) a9 (F89.l 4 (by decide)) ZV (by rw [hV4, sa_at, b3]) (F4V.l 4 (by decide))
  exact h1 V4 _ _ _ hR.symm (F9'.trans ((ZV.F.mono (by decide) (by decide) (by decide)).trans (F4V.mono (by decide) (by decide) (by decide)))) YV (by show c + e.length ≤ t7.fr; omega) (KV.keep F4V (by rw [hV4, hV3, hV2, hV1]; rfl) (by decide) (by decide))

theorem pt_readLine (K : TwT T tp n t) (Y : TwG T 2 4 A c) (hc : c ≤ t.fr) {Q : Int32 → TS → Prop} (h1 : ∀ U A' t' c', pLn tp n A t = .ok (A', t') → Tcw [2] LsR [4] T U → TwG U 2 4 A' c' → c' ≤ t'.fr → TwT U tp n t' → Q 1 U) (h2 : ∀ U f, pLn tp n A t = .error f → Tcw [2] LsR [4] T U → TwF U f → Q 0 U) : wp_X1_readLine T Q := by
  generalize hR : pLn tp n A t = R at h1 h2
  unfold pLn pLn0 at hR
  -- the sign behind it
  have eat : ∀ (U : TS) (A' : PG) (t' : Tk) (c' : Nat), (match pEat tp n 59 t' with
      | .error e => .error e
      | .ok t2 => .ok (A', t2)) = R → Tcw [2] LsR [4] T U → TwG U 2 4 A' c' → c' ≤ t'.fr → TwT U tp n t' →
      wp_X1_eats 59 U (fun r16 T15 => ∀ m17 : Int32, m17 = (if r16 = 0 then 0 else 1) → bz m17 ∧ Q m17 T15) := by
    intro U A' t' c' hR' F Y' hc' KU
    refine pt_eats KU (c := 59) (by decide) ?_ ?_
    · intro V t2 FV e KV m hm
      rw [e] at hR'
      rw [if_neg (by decide)] at hm
      rw [hm]
      obtain ⟨_, _, g3, _⟩ := pEat_ok KU.k e
      exact ⟨.inr rfl, h1 V A' t2 c' hR'.symm (F.trans (FV.mono (by decide) (by decide) (by decide))) (Y'.go (FV.mono (by decide) (by decide) (by decide))) (by omega) KV⟩
    · intro V f FV e f' m hm
      rw [e] at hR'
      rw [if_pos rfl] at hm
      rw [hm]
      exact ⟨.inl rfl, h2 V f hR'.symm (F.trans (FV.mono (by decide) (by decide) (by decide))) f'⟩
  unfold wp_X1_readLine
  refine pt_isWord (k := 0) K (by decide) ?_
  by_cases w0 : isW tp t 0 = true
  · rw [if_pos w0] at hR ⊢
    refine brF (by decide) ?_
    refine pt_readSymbol K Y ?_ ?_
    · intro U A' t' e F Y' KU
      rw [e] at hR
      refine brF (by decide) (eat U A' t' c hR F Y' ?_ KU)
      have := (pSy_fr K.k e).1
      omega
    · intro U f e F f'
      rw [e] at hR
      exact brT rfl (h2 U f hR.symm F f')
  rw [if_neg w0] at hR ⊢
  refine brT rfl ?_
  refine pt_isWord (k := 1) K (by decide) ?_
  by_cases w1 : isW tp t 1 = true
  · rw [if_pos w1] at hR ⊢
    refine brF (by decide) ?_
    refine pt_readProduction K Y ?_ ?_
    · intro U A' t' e F Y' KU
      rw [e] at hR
      refine brF (by decide) (eat U A' t' c hR F Y' ?_ KU)
      have := (pPr_fr K.k (w_ne w1) e).1
      omega
    · intro U f e F f'
      rw [e] at hR
      exact brT rfl (h2 U f hR.symm F f')
  rw [if_neg w1] at hR ⊢
  refine brT rfl ?_
  refine pt_isWord (k := 2) K (by decide) ?_
  by_cases w2 : isW tp t 2 = true
  · rw [if_pos w2] at hR ⊢
    refine brF (by decide) ?_
    refine pt_readRule K Y hc ?_ ?_
    · intro U A' t' c' e F Y' hc' KU
      rw [e] at hR
      exact brF (by decide) (eat U A' t' c' hR F Y' hc' KU)
    · intro U f e F f'
      rw [e] at hR
      exact brT rfl (h2 U f hR.symm F f')
  rw [if_neg w2] at hR ⊢
  refine brT rfl ?_
  refine pt_bad (k := 2) K (by decide) ?_
  intro U F f
  exact ⟨.inl rfl, h2 U _ hR.symm (F.mono (by decide) (by decide) (by decide)) f⟩
end
