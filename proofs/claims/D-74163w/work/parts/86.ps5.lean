/-! plain: ps5 -/
set_option maxRecDepth 100000
section
variable {T : TS} {tp : Nat → Nat} {n : Nat} {t : Tk} {A : PG} {c : Nat}

/-- a production that is being read. -/
def TwQ (T0 U : TS) (p k : Nat) (w : List Nat) (ks : Nat → Nat) : Prop :=
  (Tcw [2] LsR [4] T0 U) ∧
  (∀ i, i ≠ 20 + p → i ≠ 32 + p → i < 44 + 3 * p ∨ 47 + 3 * p ≤ i → U.a 2 i = T0.a 2 i) ∧
  (U.a 2 (20 + p) = I (ks 0)) ∧
  (U.a 2 (32 + p) = I k) ∧
  (∀ j, j < k → U.a 2 (44 + 3 * p + j) = I (ks (j + 1))) ∧
  (∀ i, i ≠ 8 + p → U.l 4 i = T0.l 4 i) ∧
  (TwN U 4 (8 + p) w)
theorem TwQ.F {T0 U : TS} {p k : Nat} {w : List Nat} {ks : Nat → Nat} (h9 : TwQ T0 U p k w ks) : Tcw [2] LsR [4] T0 U := h9.1
theorem TwQ.a {T0 U : TS} {p k : Nat} {w : List Nat} {ks : Nat → Nat} (h9 : TwQ T0 U p k w ks) : ∀ i, i ≠ 20 + p → i ≠ 32 + p → i < 44 + 3 * p ∨ 47 + 3 * p ≤ i → U.a 2 i = T0.a 2 i := h9.2.1
theorem TwQ.v0 {T0 U : TS} {p k : Nat} {w : List Nat} {ks : Nat → Nat} (h9 : TwQ T0 U p k w ks) : U.a 2 (20 + p) = I (ks 0) := h9.2.2.1
theorem TwQ.v1 {T0 U : TS} {p k : Nat} {w : List Nat} {ks : Nat → Nat} (h9 : TwQ T0 U p k w ks) : U.a 2 (32 + p) = I k := h9.2.2.2.1
theorem TwQ.v2 {T0 U : TS} {p k : Nat} {w : List Nat} {ks : Nat → Nat} (h9 : TwQ T0 U p k w ks) : ∀ j, j < k → U.a 2 (44 + 3 * p + j) = I (ks (j + 1)) := h9.2.2.2.2.1
theorem TwQ.l {T0 U : TS} {p k : Nat} {w : List Nat} {ks : Nat → Nat} (h9 : TwQ T0 U p k w ks) : ∀ i, i ≠ 8 + p → U.l 4 i = T0.l 4 i := h9.2.2.2.2.2.1
theorem TwQ.nm {T0 U : TS} {p k : Nat} {w : List Nat} {ks : Nat → Nat} (h9 : TwQ T0 U p k w ks) : TwN U 4 (8 + p) w := h9.2.2.2.2.2.2
theorem TwQ.go {T0 U V : TS} {p k : Nat} {w : List Nat} {ks : Nat → Nat} (Z : TwQ T0 U p k w ks) (F : Tcw [] [211, 212, 213, 214, 215] [] U V) : TwQ T0 V p k w ks :=
  ⟨Z.F.trans (F.mono (by decide) (by decide) (by decide)), by rw [F.a 2 (by decide)]; exact Z.a, by rw [F.a 2 (by decide)]; exact Z.v0, by rw [F.a 2 (by decide)]; exact Z.v1, by rw [F.a 2 (by decide)]; exact Z.v2, by rw [F.l 4 (by decide)]; exact Z.l, by unfold TwN; rw [F.l 4 (by decide)]; exact Z.nm⟩

theorem cnP_rl_none : cnP (fun o => (none : Option Ex) ≠ none) 32 = 0 := cnP_none (fun _ _ hh => hh rfl)
theorem sN_congr {f g : Nat → Nat} : ∀ {n : Nat}, (∀ o, o < n → f o = g o) → sN f n = sN g n
  | 0, _ => rfl
  | n + 1, h => by
    show sN f n + f n = sN g n + g n
    rw [sN_congr (fun o ho => h o (Nat.lt_succ_of_lt ho)), h n (Nat.lt_succ_self _)]
theorem nRl_addP {w : List Nat} {k : Nat} {ks : Nat → Nat} : nRl (A.addP w k ks).g = nRl A.g := by
  show sN (fun p => cnP (fun o => updN A.g.rl A.g.nP (fun _ => none) p o ≠ none) 32) A.g.nP + cnP (fun o => updN A.g.rl A.g.nP (fun _ => none) A.g.nP o ≠ none) 32 = _
  have e1 : cnP (fun o => updN A.g.rl A.g.nP (fun _ => none) A.g.nP o ≠ none) 32 = 0 := cnP_none (fun o _ hh => hh (by rw [updN_same]))
  rw [e1, Nat.add_zero]
  exact sN_congr (fun p hp => by rw [updN_ne _ _ (by omega)])

/-- rows of a production are empty. -/
def TwZ (U : TS) (p m : Nat) : Prop := ∀ o, o < m → U.a 2 (1232 + 32 * p + o) = 0 ∧ U.a 2 (848 + 32 * p + o) = 0 ∧ U.a 2 (80 + 32 * p + o) = 0 ∧ U.a 2 (464 + 32 * p + o) = 0

theorem TwQ.fin {U V : TS} {k : Nat} {w : List Nat} {ks : Nat → Nat} (Y : TwG T 2 4 A c) (h12 : A.g.nP < 12) (Z : TwQ T U A.g.nP k w ks) (hk : k ≤ 3) (hks : ∀ j, j ≤ k → ks j < A.g.nS) (hV : V.l 4 = U.l 4) (hz : TwZ V A.g.nP 32)
    (ha : ∀ i, i < 80 ∨ 1616 ≤ i ∨ (∃ p o, p < A.g.nP ∧ o < 32 ∧ (i = 1232 + 32 * p + o ∨ i = 848 + 32 * p + o ∨ i = 80 + 32 * p + o ∨ i = 464 + 32 * p + o)) → V.a 2 i = U.a 2 i) : TwG (V.sa 2 1 (I (A.g.nP + 1))) 2 4 (A.addP w k ks) c := by
  have hS := Y.w.nS
  have a0 : (V.sa 2 1 (I (A.g.nP + 1))).a 2 = updN (V.a 2) 1 (I (A.g.nP + 1)) := sa_at _ _ _ _
  have up : ∀ i, i ≠ 1 → (V.sa 2 1 (I (A.g.nP + 1))).a 2 i = V.a 2 i := fun i hi => by rw [a0, updN_ne _ _ hi]
  have upU : ∀ i, i < 80 → i ≠ 1 → (V.sa 2 1 (I (A.g.nP + 1))).a 2 i = U.a 2 i := fun i h0 h1 => by rw [up i h1]; exact ha i (.inl h0)
  have upT : ∀ i, i < 80 → i ≠ 1 → i ≠ 20 + A.g.nP → i ≠ 32 + A.g.nP → i < 44 + 3 * A.g.nP ∨ 47 + 3 * A.g.nP ≤ i → (V.sa 2 1 (I (A.g.nP + 1))).a 2 i = T.a 2 i := fun i h0 h1 h2 h3 h4 => by rw [upU i h0 h1]; exact Z.a i h2 h3 h4
  have upR : ∀ p o, p < A.g.nP → o < 32 → ∀ i, (i = 1232 + 32 * p + o ∨ i = 848 + 32 * p + o ∨ i = 80 + 32 * p + o ∨ i = 464 + 32 * p + o) → (V.sa 2 1 (I (A.g.nP + 1))).a 2 i = T.a 2 i := fun p o hp ho i hi => by
    rw [up i (by omega), ha i (.inr (.inr ⟨p, o, hp, ho, hi⟩))]
    exact Z.a i (by omega) (by omega) (by omega)
  refine ⟨⟨?_, ?_, fun s hs => ?_, fun s hs => ?_, fun p hp => ?_, fun p hp => ?_, fun p j hp hj => ?_, fun p o hp ho => ?_⟩, ⟨fun p o hp ho he => ?_, fun p o e hp ho he => ?_⟩, ?_, ?_, fun s hs => ?_, fun p hp => ?_, fun s a hs ha' => ?_, addP_WF Y.w h12 hk hks, addP_RL Y.rl, fun p o e f hp ho he hf hx => Y.cb p o e f (addP_rl hp he).1 ho (addP_rl hp he).2 hf (by rw [← upR p o (addP_rl hp he).1 ho _ (.inr (.inr (.inl rfl)))]; exact hx)⟩
  · rw [upT 0 (by omega) (by omega) (by omega) (by omega) (by omega)]; exact Y.g.nS
  · rw [a0, updN_same]; rfl
  · have hs' : s < A.g.nS := hs
    rw [upT _ (by omega) (by omega) (by omega) (by omega) (by omega)]; exact Y.g.ins s hs
  · have hs' : s < A.g.nS := hs
    rw [upT _ (by omega) (by omega) (by omega) (by omega) (by omega)]; exact Y.g.outs s hs
  · have hp' : p < A.g.nP + 1 := hp
    show _ = I (updN A.g.sy A.g.nP ks p 0)
    by_cases e : p = A.g.nP
    · rw [e, updN_same, upU _ (by omega) (by omega)]; exact Z.v0
    · rw [updN_ne _ _ e, upT _ (by omega) (by omega) (by omega) (by omega) (by omega)]; exact Y.g.left p (by omega)
  · have hp' : p < A.g.nP + 1 := hp
    show _ = I (updN A.g.kn A.g.nP k p)
    by_cases e : p = A.g.nP
    · rw [e, updN_same, upU _ (by omega) (by omega)]; exact Z.v1
    · rw [updN_ne _ _ e, upT _ (by omega) (by omega) (by omega) (by omega) (by omega)]; exact Y.g.kn p (by omega)
  · have hp' : p < A.g.nP + 1 := hp
    have hj' : j < updN A.g.kn A.g.nP k p := hj
    show _ = I (updN A.g.sy A.g.nP ks p (j + 1))
    by_cases e : p = A.g.nP
    · rw [e, updN_same] at hj'
      rw [e, updN_same, upU _ (by omega) (by omega)]; exact Z.v2 j hj'
    · rw [updN_ne _ _ e] at hj'
      have := Y.w.kn p (by omega)
      rw [updN_ne _ _ e, upT _ (by omega) (by omega) (by omega) (by omega) (by omega)]; exact Y.g.kid p j (by omega) hj'
  · have hp' : p < A.g.nP + 1 := hp
    by_cases e : p = A.g.nP
    · have e9 : (A.addP w k ks).g.ask p o = 0 := by
        unfold Gv.ask
        rw [show (A.addP w k ks).g.rl p o = none by show updN A.g.rl A.g.nP (fun _ => none) p o = none; rw [e, updN_same]]
      rw [e9, e, up _ (by omega)]; exact (hz o ho).2.1
    · have e9 : (A.addP w k ks).g.ask p o = A.g.ask p o := by
        unfold Gv.ask
        rw [show (A.addP w k ks).g.rl p o = A.g.rl p o by show updN A.g.rl A.g.nP (fun _ => none) p o = _; rw [updN_ne _ _ e]]
      rw [e9, upR p o (by omega) ho _ (by omega)]; exact Y.g.ask p o (by omega) ho
  · have hp' : p < A.g.nP + 1 := hp
    have he' : updN A.g.rl A.g.nP (fun _ => none) p o = none := he
    by_cases e : p = A.g.nP
    · rw [e, up _ (by omega), up _ (by omega), up _ (by omega)]
      exact ⟨(hz o ho).2.2.1, (hz o ho).2.2.2, (hz o ho).1⟩
    · rw [updN_ne _ _ e] at he'
      rw [upR p o (by omega) ho _ (by omega), upR p o (by omega) ho _ (by omega), upR p o (by omega) ho _ (by omega)]
      exact Y.k.cn p o (by omega) ho he'
  · obtain ⟨hp', he'⟩ := addP_rl hp he
    obtain ⟨f, c1, c2, c3, c4, c5⟩ := Y.k.cs p o e hp' ho he'
    have hi : ∀ i, 1616 ≤ i → (V.sa 2 1 (I (A.g.nP + 1))).a 2 i = T.a 2 i := fun i hi => by
      rw [up i (by omega), ha i (.inr (.inl hi))]
      exact Z.a i (by omega) (by omega) (by omega)
    refine ⟨f, by rw [upR p o hp' ho _ (by omega)]; exact c1, by rw [upR p o hp' ho _ (by omega)]; exact c2, by rw [upR p o hp' ho _ (by omega)]; exact c3, c4, fun i hii => ?_⟩
    rw [hi _ (by omega), hi _ (by omega)]; exact c5 i hii
  · rw [nRl_addP, upT 2 (by omega) (by omega) (by omega) (by omega) (by omega)]; exact Y.z
  · rw [upT 3 (by omega) (by omega) (by omega) (by omega) (by omega)]; exact Y.m
  · have hs' : s < A.g.nS := hs
    show TwN V 4 s (A.sn s)
    unfold TwN
    rw [hV, Z.l _ (by omega)]; exact Y.sn s hs
  · have hp' : p < A.g.nP + 1 := hp
    show TwN V 4 (8 + p) (updN A.pn A.g.nP w p)
    unfold TwN
    rw [hV]
    by_cases e : p = A.g.nP
    · rw [e, updN_same]; exact Z.nm
    · rw [updN_ne _ _ e, Z.l _ (by omega)]; exact Y.pn p (by omega)
  · have hs' : s < A.g.nS := hs
    show TwN V 4 (20 + 8 * s + a) (A.an s a)
    unfold TwN
    rw [hV, Z.l _ (by omega)]; exact Y.an s a hs ha'

theorem pt_readProduction (K : TwT T tp n t) (Y : TwG T 2 4 A c) {Q : Int32 → TS → Prop} (h1 : ∀ U A' t', pPr tp n A t = .ok (A', t') → Tcw [2] LsR [4] T U → TwG U 2 4 A' c → TwT U tp n t' → Q 1 U) (h2 : ∀ U f, pPr tp n A t = .error f → Tcw [2] LsR [4] T U → TwF U f → Q 0 U) : wp_X1_readProduction T Q := by
  have hS := Y.w.nS
  have hP := Y.w.nP
  generalize hR : pPr tp n A t = R at h1 h2
  -- a fault
  have err : ∀ (V : TS) (t' : Tk) (k : Nat), Tcw [2] LsR [4] T V → TwT V tp n t' → .error (bad t' k) = R → k < 10 → wp_X1_bad (I k) V (fun r U => bz r ∧ Q r U) := by
    intro V t' k FV KV hR' hk
    refine pt_bad KV hk ?_
    intro U F f
    exact ⟨.inl rfl, h2 U _ hR'.symm (FV.trans (F.mono (by decide) (by decide) (by decide))) f⟩
  unfold pPr at hR
  unfold wp_X1_readProduction
  refine ⟨tix_I (k := 1) rfl (by decide) (by decide), ?_⟩
  rw [show ni 1 = 1 from rfl, Y.g.nP]
  by_cases h12 : A.g.nP = 12
  · rw [if_pos h12] at hR
    exact brT (by rw [h12]; rfl) (err T t 6 (Tcw.refl T) K hR (by decide))
  rw [if_neg h12] at hR
  have hp12 : A.g.nP < 12 := by omega
  refine brF (fun hh => h12 ((eq_L 12 (by decide) (by omega)).1 hh)) ?_
  refine pt_nxt K ?_
  intro U1 F1 K1
  have F1' : Tcw [2] LsR [4] T U1 := F1.mono (by decide) (by decide) (by decide)
  have Y1 := Y.go (F1.mono (by decide) (by decide) (by decide))
  refine pt_isName K1 ?_
  by_cases hn : isNm tp (nxt tp n t) = true
  rotate_left
  · rw [if_neg hn] at hR ⊢
    exact brT rfl (err U1 _ 2 F1' K1 hR (by decide))
  rw [if_pos hn] at hR ⊢
  have hk2 := (isNm_iff.1 hn).1
  refine brF (by decide) ?_
  rw [K1.wd hk2]
  refine pt_findIn (b := 8) (f := A.pn) ⟨.inr rfl, by omega⟩ (fun k hk => Y1.pn k hk) (K1.wl hk2) ?_
  cases hf : fdN A.pn A.g.nP (wrd tp (nxt tp n t)) with
  | some j =>
    rw [hf, if_pos (show (some j).isSome = true from rfl)] at hR
    have hj := (fstN_some.1 hf).1
    exact brF (I_neg1_ne (by omega)) (err U1 _ 4 F1' K1 hR (by decide))
  | none =>
  rw [hf, if_neg (show ¬ (none : Option Nat).isSome = true by decide)] at hR
  refine brT rfl ?_
  rw [K1.wd hk2]
  (try simp (disch := omega) only [L_le, le_L, L_lt, lt_L, eq_L, L_eq, I_le, I_lt, I_eq, I_ni, add_L, L_add, I_add, mul_L, L_mul, I_mul, sub_L, L_sub, I_sub, div_L, rem_L])
  refine ⟨tix_I rfl (by show _ < 84; omega) (by decide), ?_⟩
  intro U2 hU2
  have F12 : Tcw [] [] [4] U1 U2 := by rw [hU2]; exact (Tcw.refl U1).sl (by decide) _ _
  have F2' : Tcw [2] LsR [4] T U2 := F1'.trans (F12.mono (by decide) (by decide) (by decide))
  have K2 : TwT U2 tp n (nxt tp n t) := K1.keep F12 (by rw [hU2]; rfl) (by decide) (by decide)
  have l2 : U2.l 4 = updN (T.l 4) (8 + A.g.nP) (Jw (cdW (wrd tp (nxt tp n t)))) := by rw [hU2, sl_at, F1.l 4 (by decide)]
  have a2 : U2.a 2 = T.a 2 := by rw [F12.a 2 (by decide), F1.a 2 (by decide)]
  have Ysn : ∀ (V : TS), V.l 4 = U2.l 4 → ∀ k, k < A.g.nS → TwN V 4 k (A.sn k) := fun V hV k hk => by
    unfold TwN
    rw [hV, l2, updN_ne _ _ (by omega)]; exact Y.sn k hk
  refine pt_nxt K2 ?_
  intro U3 F3 K3
  have F3' : Tcw [2] LsR [4] T U3 := F2'.trans (F3.mono (by decide) (by decide) (by decide))
  refine pt_eats K3 (c := 58) (by decide) ?_ ?_
  rotate_left
  · intro U4 f F4 e4 f4
    by_cases hsg : isSg (nxt tp n (nxt tp n t)) 58 = true
    · unfold pEat at e4; rw [if_pos hsg] at e4; exact absurd e4 (by simp)
    rw [if_neg hsg] at hR
    unfold pEat at e4
    rw [if_neg hsg] at e4
    have e5 := Except.error.inj e4
    rw [e5] at hR
    exact brT rfl (h2 U4 f hR.symm (F3'.trans (F4.mono (by decide) (by decide) (by decide))) f4)
  intro U4 t4 F4 e4 K4
  by_cases hsg : isSg (nxt tp n (nxt tp n t)) 58 = true
  rotate_left
  · unfold pEat at e4; rw [if_neg hsg] at e4; exact absurd e4 (by simp)
  rw [if_pos hsg] at hR
  unfold pEat at e4
  rw [if_pos hsg] at e4
  have e5 := Except.ok.inj e4
  rw [e5] at hR
  clear e4 e5
  have F4' : Tcw [2] LsR [4] T U4 := F3'.trans (F4.mono (by decide) (by decide) (by decide))
  have a4 : U4.a 2 = T.a 2 := by rw [F4.a 2 (by decide), F3.a 2 (by decide), a2]
  have l4 : U4.l 4 = U2.l 4 := by rw [F4.l 4 (by decide), F3.l 4 (by decide)]
  refine brF (by decide) ?_
  unfold pPr3 at hR
  refine pt_isName K4 ?_
  by_cases hn4 : isNm tp t4 = true
  rotate_left
  · rw [if_neg hn4] at hR ⊢
    exact brT rfl (err U4 _ 2 F4' K4 hR (by decide))
  rw [if_pos hn4] at hR ⊢
  have hk4 := (isNm_iff.1 hn4).1
  refine brF (by decide) ⟨tix_I (k := 0) rfl (by decide) (by decide), ?_⟩
  rw [show ni 0 = 0 from rfl, a4, Y.g.nS, K4.wd hk4]
  refine pt_findIn (b := 0) (f := A.sn) ⟨.inr rfl, by omega⟩ (fun k hk => by rw [Nat.zero_add]; exact Ysn U4 l4 k hk) (K4.wl hk4) ?_
  cases hf4 : fdN A.sn A.g.nS (wrd tp t4) with
  | none =>
    rw [hf4] at hR
    exact brT rfl (err U4 _ 3 F4' K4 hR (by decide))
  | some s =>
  rw [hf4] at hR
  dsimp only at hR
  have hs := (fstN_some.1 hf4).1
  refine brF (I_neg1_ne (by omega)) ?_
  (try simp (disch := omega) only [L_le, le_L, L_lt, lt_L, eq_L, L_eq, I_le, I_lt, I_eq, I_ni, add_L, L_add, I_add, mul_L, L_mul, I_mul, sub_L, L_sub, I_sub, div_L, rem_L])
  refine ⟨tix_I rfl (by show _ < 3816; omega) (by decide), ?_⟩
  intro U5 hU5
  refine ⟨tix_I rfl (by show _ < 3816; omega) (by decide), ?_⟩
  intro U6 hU6
  have F46 : Tcw [2] [] [] U4 U6 := by rw [hU6, hU5]; exact ((Tcw.refl U4).sa (by decide) _ _).sa (by decide) _ _
  have K6 : TwT U6 tp n t4 := K4.keep F46 (by rw [hU6, hU5]; rfl) (by decide) (by decide)
  have a6 : U6.a 2 = updN (updN (T.a 2) (20 + A.g.nP) (I s)) (32 + A.g.nP) 0 := by rw [hU6, sa_at, hU5, sa_at, a4]; rfl
  have Z6 : TwQ T U6 A.g.nP 0 (wrd tp (nxt tp n t)) (fun _ => s) := by
    refine ⟨F4'.trans (F46.mono (by decide) (by decide) (by decide)), fun i i1 i2 i3 => ?_, ?_, ?_, fun j hj => absurd hj (Nat.not_lt_zero _), fun i hi => ?_, ?_⟩
    · rw [a6, updN_ne _ _ i2, updN_ne _ _ i1]
    · rw [a6, updN_ne _ _ (by omega), updN_same]
    · rw [a6, updN_same]; rfl
    · rw [F46.l 4 (by decide), l4, l2, updN_ne _ _ hi]
    · unfold TwN
      rw [F46.l 4 (by decide), l4, l2, updN_same]; exact ⟨rfl, K1.wl hk2⟩
  refine pt_nxt K6 ?_
  intro U7 F7 K7
  have Z7 := Z6.go F7
  generalize hw : wrd tp (nxt tp n t) = w at *
  clear Z6 K6 F46 a6 hU6 hU5 F7 l4 a4 F4' F4 F3' K3 F3 a2 K2 F2' F12 hU2 Y1 F1' F1 K1 hf hn hk2 hn4 hk4 hf4 hsg
  -- children
  refine tlp_cnt 4 (fun k _ U => ∃ t' ks, k ≤ 3 ∧ TwT U tp n t' ∧ TwQ T U A.g.nP k w ks ∧ (∀ j, j ≤ k → ks j < A.g.nS) ∧ (match pKd tp n A (5 - k) t' ks k with
      | .error e => .error e
      | .ok q => .ok (A.addP w q.2.1 q.1, q.2.2)) = R) ⟨_, _, by omega, K7, Z7, fun j _ => hs, hR⟩ ?_
  clear hR
  intro k _ U KK hk hh hKK
  obtain ⟨t', ks, hk3, KU, Z, hks, hR⟩ := hh
  rw [show 5 - k = (4 - k) + 1 by omega] at hR
  unfold pKd at hR
  refine pt_isName KU ?_
  by_cases hn : isNm tp t' = true
  · rw [if_pos hn] at hR ⊢
    have hk2 := (isNm_iff.1 hn).1
    have aS : U.a 2 0 = I A.g.nS := by rw [Z.a 0 (by omega) (by omega) (by omega)]; exact Y.g.nS
    refine brF (by decide) ⟨tix_I (k := 0) rfl (by decide) (by decide), ?_⟩
    rw [aS, KU.wd hk2]
    refine pt_findIn (b := 0) (f := A.sn) ⟨.inr rfl, by omega⟩ (fun k hk => by rw [Nat.zero_add, Z.l _ (by omega)]; exact Y.sn k hk) (KU.wl hk2) ?_
    cases hf : fdN A.sn A.g.nS (wrd tp t') with
    | none =>
      rw [hf] at hR
      exact brT rfl (err U _ 3 Z.F KU hR (by decide))
    | some s =>
    rw [hf] at hR
    dsimp only at hR
    have hs := (fstN_some.1 hf).1
    refine brF (I_neg1_ne (by omega)) ?_
    (try simp (disch := omega) only [L_le, le_L, L_lt, lt_L, eq_L, L_eq, I_le, I_lt, I_eq, I_ni, add_L, L_add, I_add, mul_L, L_mul, I_mul, sub_L, L_sub, I_sub, div_L, rem_L])
    refine ⟨tix_I rfl (by show _ < 3816; omega) (by decide), ?_⟩
    rw [Z.v1]
    by_cases e3 : k = 3
    · rw [if_pos e3] at hR
      exact brT (by rw [e3]; rfl) (err U _ 6 Z.F KU hR (by decide))
    rw [if_neg e3] at hR
    refine brF (fun hh => e3 ((eq_L 3 (by decide) (by omega)).1 hh)) ?_
    (try simp (disch := omega) only [L_le, le_L, L_lt, lt_L, eq_L, L_eq, I_le, I_lt, I_eq, I_ni, add_L, L_add, I_add, mul_L, L_mul, I_mul, sub_L, L_sub, I_sub, div_L, rem_L])
    refine ⟨tix_I rfl (by show _ < 3816; omega) (by decide), tix_I rfl (by show _ < 3816; omega) (by decide), ?_⟩
    intro V1 hV1
    refine ⟨tix_I rfl (by show _ < 3816; omega) (by decide), tix_I rfl (by show _ < 3816; omega) (by decide), ?_⟩
    have b1 : V1.a 2 = updN (U.a 2) (44 + 3 * A.g.nP + k) (I s) := by rw [hV1, sa_at]; rfl
    have b2 : V1.a 2 (32 + A.g.nP) = I k := by rw [b1, updN_ne _ _ (by omega)]; exact Z.v1
    rw [b2]
    (try simp (disch := omega) only [L_le, le_L, L_lt, lt_L, eq_L, L_eq, I_le, I_lt, I_eq, I_ni, add_L, L_add, I_add, mul_L, L_mul, I_mul, sub_L, L_sub, I_sub, div_L, rem_L])
    intro V2 hV2
    have F2 : Tcw [2] [] [] U V2 := by rw [hV2, hV1]; exact ((Tcw.refl U).sa (by decide) _ _).sa (by decide) _ _
    have KV : TwT V2 tp n t' := KU.keep F2 (by rw [hV2, hV1]; rfl) (by decide) (by decide)
    have b3 : V2.a 2 = updN (updN (U.a 2) (44 + 3 * A.g.nP + k) (I s)) (32 + A.g.nP) (I (k + 1)) := by rw [hV2, sa_at, b1]
    have ZV : TwQ T V2 A.g.nP (k + 1) w (updN ks (k + 1) s) := by
      refine ⟨Z.F.trans (F2.mono (by decide) (by decide) (by decide)), fun i i1 i2 i3 => ?_, ?_, ?_, fun j hj => ?_, fun i hi => ?_, ?_⟩
      · rw [b3, updN_ne _ _ i2, updN_ne _ _ (by omega)]; exact Z.a i i1 i2 i3
      · rw [b3, updN_ne _ _ (by omega), updN_ne _ _ (by omega), updN_ne _ _ (by omega)]; exact Z.v0
      · rw [b3, updN_same]
      · rw [b3, updN_ne _ _ (by omega)]
        by_cases ej : j = k
        · rw [ej, updN_same, updN_same]
        · rw [updN_ne _ _ (by omega), updN_ne _ _ (by omega)]; exact Z.v2 j (by omega)
      · rw [F2.l 4 (by decide)]; exact Z.l i hi
      · unfold TwN
        rw [F2.l 4 (by decide)]; exact Z.nm
    refine pt_nxt KV ?_
    intro V3 F3 KV3
    refine hKK _ _ (by omega) ⟨_, _, by omega, KV3, ZV.go F3, fun j hj => ?_, ?_⟩
    · by_cases ej : j = k + 1
      · rw [ej, updN_same]; exact hs
      · rw [updN_ne _ _ ej]; exact hks j (by omega)
    · rw [show 5 - (k + 1) = 4 - k by omega]
      exact hR
  · rw [if_neg hn] at hR ⊢
    dsimp only at hR
    refine brT rfl ?_
    refine tlp_cnt 32 (fun o s V => s = I o ∧ Tcw [2] [] [] U V ∧ TwT V tp n t' ∧ TwZ V A.g.nP o ∧ ∀ i, i < 80 ∨ 1616 ≤ i ∨ (∃ p o, p < A.g.nP ∧ o < 32 ∧ (i = 1232 + 32 * p + o ∨ i = 848 + 32 * p + o ∨ i = 80 + 32 * p + o ∨ i = 464 + 32 * p + o)) → V.a 2 i = U.a 2 i) ⟨rfl, Tcw.refl U, KU, fun o ho => absurd ho (Nat.not_lt_zero _), fun _ _ => rfl⟩ ?_
    intro o s V KO ho hh hKO
    obtain ⟨hs', FV, KV, ZZ, hV⟩ := hh
    rw [hs']
    clear hs' s
    by_cases eo : o = 32
    · refine brT (by (first | omega | ((try simp (disch := omega) only [L_le, le_L, L_lt, lt_L, eq_L, L_eq, I_le, I_lt, I_eq, I_ni, add_L, L_add, I_add, mul_L, L_mul, I_mul, sub_L, L_sub, I_sub, div_L, rem_L]); done) | ((try simp (disch := omega) only [L_le, le_L, L_lt, lt_L, eq_L, L_eq, I_le, I_lt, I_eq, I_ni, add_L, L_add, I_add, mul_L, L_mul, I_mul, sub_L, L_sub, I_sub, div_L, rem_L]); omega))) ⟨tix_I (k := 1) rfl (by decide) (by decide), tix_I (k := 1) rfl (by decide) (by decide), ?_⟩
      subst eo
      have e1 : V.a 2 1 = I A.g.nP := by rw [hV 1 (.inl (by decide)), Z.a 1 (by omega) (by omega) (by omega)]; exact Y.g.nP
      rw [e1]
      (try simp (disch := omega) only [L_le, le_L, L_lt, lt_L, eq_L, L_eq, I_le, I_lt, I_eq, I_ni, add_L, L_add, I_add, mul_L, L_mul, I_mul, sub_L, L_sub, I_sub, div_L, rem_L])
      intro V2 hV2
      have F2 : Tcw [2] [] [] V V2 := by rw [hV2]; exact (Tcw.refl V).sa (by decide) _ _
      refine h1 V2 _ _ hR.symm ((Z.F.trans (FV.mono (by decide) (by decide) (by decide))).trans (F2.mono (by decide) (by decide) (by decide))) ?_ (KV.keep F2 (by rw [hV2]; rfl) (by decide) (by decide))
      rw [hV2]
      exact TwQ.fin Y hp12 Z hk3 hks (FV.l 4 (by decide)) ZZ hV
    have ho' : o < 32 := by omega
    refine brF (by (first | omega | ((try simp (disch := omega) only [L_le, le_L, L_lt, lt_L, eq_L, L_eq, I_le, I_lt, I_eq, I_ni, add_L, L_add, I_add, mul_L, L_mul, I_mul, sub_L, L_sub, I_sub, div_L, rem_L]); done) | ((try simp (disch := omega) only [L_le, le_L, L_lt, lt_L, eq_L, L_eq, I_le, I_lt, I_eq, I_ni, add_L, L_add, I_add, mul_L, L_mul, I_mul, sub_L, L_sub, I_sub, div_L, rem_L]); omega))) ?_
    (try simp (disch := omega) only [L_le, le_L, L_lt, lt_L, eq_L, L_eq, I_le, I_lt, I_eq, I_ni, add_L, L_add, I_add, mul_L, L_mul, I_mul, sub_L, L_sub, I_sub, div_L, rem_L])
    refine ⟨tix_I rfl (by show _ < 3816; omega) (by decide), ?_⟩
    intro V1 hV1
    refine ⟨tix_I rfl (by show _ < 3816; omega) (by decide), ?_⟩
    intro V2 hV2
    refine ⟨tix_I rfl (by show _ < 3816; omega) (by decide), ?_⟩
    intro V3 hV3
    refine ⟨tix_I rfl (by show _ < 3816; omega) (by decide), ?_⟩
    intro V4 hV4
    have F4 : Tcw [2] [] [] V V4 := by rw [hV4, hV3, hV2, hV1]; exact ((((Tcw.refl V).sa (by decide) _ _).sa (by decide) _ _).sa (by decide) _ _).sa (by decide) _ _
    have b4 : V4.a 2 = updN (updN (updN (updN (V.a 2) (1232 + 32 * A.g.nP + o) 0) (848 + 32 * A.g.nP + o) 0) (80 + 32 * A.g.nP + o) 0) (464 + 32 * A.g.nP + o) 0 := by rw [hV4, sa_at, hV3, sa_at, hV2, sa_at, hV1, sa_at]
    refine hKO _ _ ho' ⟨rfl, FV.trans F4, KV.keep F4 (by rw [hV4, hV3, hV2, hV1]; rfl) (by decide) (by decide), fun o9 ho9 => ?_, fun i hi => ?_⟩
    · rw [b4]
      by_cases e9 : o9 = o
      · subst e9
        refine ⟨?_, ?_, ?_, ?_⟩
        · rw [updN_ne _ _ (by omega), updN_ne _ _ (by omega), updN_ne _ _ (by omega), updN_same]
        · rw [updN_ne _ _ (by omega), updN_ne _ _ (by omega), updN_same]
        · rw [updN_ne _ _ (by omega), updN_same]
        · rw [updN_same]
      · obtain ⟨z1, z2, z3, z4⟩ := ZZ o9 (by omega)
        refine ⟨?_, ?_, ?_, ?_⟩
        · rw [updN_ne _ _ (by omega), updN_ne _ _ (by omega), updN_ne _ _ (by omega), updN_ne _ _ (by omega)]; exact z1
        · rw [updN_ne _ _ (by omega), updN_ne _ _ (by omega), updN_ne _ _ (by omega), updN_ne _ _ (by omega)]; exact z2
        · rw [updN_ne _ _ (by omega), updN_ne _ _ (by omega), updN_ne _ _ (by omega), updN_ne _ _ (by omega)]; exact z3
        · rw [updN_ne _ _ (by omega), updN_ne _ _ (by omega), updN_ne _ _ (by omega), updN_ne _ _ (by omega)]; exact z4
    · have hi' : i < 80 ∨ 1616 ≤ i ∨ (∃ p o', p < A.g.nP ∧ o' < 32 ∧ (i = 1232 + 32 * p + o' ∨ i = 848 + 32 * p + o' ∨ i = 80 + 32 * p + o' ∨ i = 464 + 32 * p + o')) := hi
      have hne : i ≠ 1232 + 32 * A.g.nP + o ∧ i ≠ 848 + 32 * A.g.nP + o ∧ i ≠ 80 + 32 * A.g.nP + o ∧ i ≠ 464 + 32 * A.g.nP + o := by
        rcases hi' with h | h | ⟨p, o', hp, ho2, h⟩
        · omega
        · omega
        · omega
      rw [b4, updN_ne _ _ hne.2.2.2, updN_ne _ _ hne.2.2.1, updN_ne _ _ hne.2.1, updN_ne _ _ hne.1]
      exact hV i hi
end
