/-! plain: ps4 -/
set_option maxRecDepth 100000
section
variable {T : TS} {tp : Nat → Nat} {n : Nat} {t : Tk} {A : PG} {c : Nat}

abbrev LsR : List Nat := [211, 212, 213, 214, 215, 216, 217, 219, 220, 221]
/-- a symbol that is being read. -/
def TwS (T0 U : TS) (s ic oc : Nat) (w : List Nat) (an : Nat → List Nat) : Prop :=
  (Tcw [2] LsR [4] T0 U) ∧
  (∀ i, i ≠ 4 + s → i ≠ 12 + s → U.a 2 i = T0.a 2 i) ∧
  (U.a 2 (4 + s) = I ic) ∧
  (U.a 2 (12 + s) = I oc) ∧
  (∀ i, i ≠ s → i < 20 + 8 * s ∨ 28 + 8 * s ≤ i → U.l 4 i = T0.l 4 i) ∧
  (TwN U 4 s w) ∧
  (∀ k, k < ic + oc → TwN U 4 (20 + 8 * s + k) (an k))
theorem TwS.F {T0 U : TS} {s ic oc : Nat} {w : List Nat} {an : Nat → List Nat} (h9 : TwS T0 U s ic oc w an) : Tcw [2] LsR [4] T0 U := h9.1
theorem TwS.a {T0 U : TS} {s ic oc : Nat} {w : List Nat} {an : Nat → List Nat} (h9 : TwS T0 U s ic oc w an) : ∀ i, i ≠ 4 + s → i ≠ 12 + s → U.a 2 i = T0.a 2 i := h9.2.1
theorem TwS.v1 {T0 U : TS} {s ic oc : Nat} {w : List Nat} {an : Nat → List Nat} (h9 : TwS T0 U s ic oc w an) : U.a 2 (4 + s) = I ic := h9.2.2.1
theorem TwS.v2 {T0 U : TS} {s ic oc : Nat} {w : List Nat} {an : Nat → List Nat} (h9 : TwS T0 U s ic oc w an) : U.a 2 (12 + s) = I oc := h9.2.2.2.1
theorem TwS.l {T0 U : TS} {s ic oc : Nat} {w : List Nat} {an : Nat → List Nat} (h9 : TwS T0 U s ic oc w an) : ∀ i, i ≠ s → i < 20 + 8 * s ∨ 28 + 8 * s ≤ i → U.l 4 i = T0.l 4 i := h9.2.2.2.2.1
theorem TwS.nm {T0 U : TS} {s ic oc : Nat} {w : List Nat} {an : Nat → List Nat} (h9 : TwS T0 U s ic oc w an) : TwN U 4 s w := h9.2.2.2.2.2.1
theorem TwS.e {T0 U : TS} {s ic oc : Nat} {w : List Nat} {an : Nat → List Nat} (h9 : TwS T0 U s ic oc w an) : ∀ k, k < ic + oc → TwN U 4 (20 + 8 * s + k) (an k) := h9.2.2.2.2.2.2

theorem TwS.go {T0 U V : TS} {s ic oc : Nat} {w : List Nat} {an : Nat → List Nat} (Z : TwS T0 U s ic oc w an) (F : Tcw [] [211, 212, 213, 214, 215] [] U V) : TwS T0 V s ic oc w an :=
  ⟨Z.F.trans (F.mono (by decide) (by decide) (by decide)), by rw [F.a 2 (by decide)]; exact Z.a, by rw [F.a 2 (by decide)]; exact Z.v1, by rw [F.a 2 (by decide)]; exact Z.v2, by rw [F.l 4 (by decide)]; exact Z.l, by unfold TwN; rw [F.l 4 (by decide)]; exact Z.nm, fun k hk => by unfold TwN; rw [F.l 4 (by decide)]; exact Z.e k hk⟩
theorem TwS.ins {T0 U V : TS} {s k : Nat} {w : List Nat} {an an' : Nat → List Nat} (Z : TwS T0 U s 0 0 w an) (hs : s < 8) (B : TwA U V s 4 0 k an') : TwS T0 V s k 0 w an' :=
  ⟨Z.F.trans (B.F.mono (by decide) (by decide) (by decide)), fun i h1 h2 => by rw [B.a i h1]; exact Z.a i h1 h2, by rw [B.v, Nat.sub_zero], by rw [B.a _ (by omega)]; exact Z.v2, fun i h1 h2 => by rw [B.l i h2]; exact Z.l i h1 h2, by unfold TwN; rw [B.l s (by omega)]; exact Z.nm, fun j hj => B.e j (by omega)⟩
theorem TwS.outs {T0 U V : TS} {s ic k : Nat} {w : List Nat} {an an' : Nat → List Nat} (Z : TwS T0 U s ic 0 w an) (hs : s < 8) (hk : ic ≤ k) (B : TwA U V s 12 ic k an') : TwS T0 V s ic (k - ic) w an' :=
  ⟨Z.F.trans (B.F.mono (by decide) (by decide) (by decide)), fun i h1 h2 => by rw [B.a i h2]; exact Z.a i h1 h2, by rw [B.a _ (by omega)]; exact Z.v1, B.v, fun i h1 h2 => by rw [B.l i h2]; exact Z.l i h1 h2, by unfold TwN; rw [B.l s (by omega)]; exact Z.nm, fun j hj => B.e j (by omega)⟩

theorem nRl_addS {w : List Nat} {i k : Nat} {an : Nat → List Nat} : nRl (A.addS w i k an).g = nRl A.g := rfl

theorem TwS.fin {U : TS} {ic oc : Nat} {w : List Nat} {an : Nat → List Nat} (Y : TwG T 2 4 A c) (h8 : A.g.nS < 8) (Z : TwS T U A.g.nS ic oc w an) (hi : ic ≤ 4) (ho : oc ≤ 4) : TwG (U.sa 2 0 (I (A.g.nS + 1))) 2 4 (A.addS w ic (ic + oc) an) c := by
  have hP := Y.w.nP
  have a0 : (U.sa 2 0 (I (A.g.nS + 1))).a 2 = updN (U.a 2) 0 (I (A.g.nS + 1)) := sa_at _ _ _ _
  have up : ∀ i, i ≠ 0 → (U.sa 2 0 (I (A.g.nS + 1))).a 2 i = U.a 2 i := fun i hi => by rw [a0, updN_ne _ _ hi]
  have upT : ∀ i, i ≠ 0 → i ≠ 4 + A.g.nS → i ≠ 12 + A.g.nS → (U.sa 2 0 (I (A.g.nS + 1))).a 2 i = T.a 2 i := fun i h0 h1 h2 => by rw [up i h0]; exact Z.a i h1 h2
  refine ⟨⟨?_, ?_, fun s hs => ?_, fun s hs => ?_, fun p hp => ?_, fun p hp => ?_, fun p k hp hk => ?_, fun p o hp ho => ?_⟩, ?_, ?_, ?_, fun s hs => ?_, fun p hp => ?_, fun s a hs ha => ?_, addS_WF Y.w h8 hi (by omega) (by omega), addS_RL Y.rl, fun p o e f hp ho' he hf ha => Y.cb p o e f hp ho' he hf (by rw [← upT _ (by omega) (by omega) (by omega)]; exact ha)⟩
  · rw [a0, updN_same]; rfl
  · rw [upT 1 (by omega) (by omega) (by omega)]; exact Y.g.nP
  · have hs' : s < A.g.nS + 1 := hs
    show _ = I (updN A.g.ins A.g.nS ic s)
    by_cases e : s = A.g.nS
    · rw [e, updN_same, up _ (by omega)]; exact Z.v1
    · rw [updN_ne _ _ e, upT _ (by omega) (by omega) (by omega)]; exact Y.g.ins s (by omega)
  · have hs' : s < A.g.nS + 1 := hs
    show _ = I (updN A.g.cnt A.g.nS (ic + oc) s - updN A.g.ins A.g.nS ic s)
    by_cases e : s = A.g.nS
    · rw [e, updN_same, updN_same, up _ (by omega), show ic + oc - ic = oc by omega]; exact Z.v2
    · rw [updN_ne _ _ e, updN_ne _ _ e, upT _ (by omega) (by omega) (by omega)]; exact Y.g.outs s (by omega)
  · have hp' : p < A.g.nP := hp
    rw [upT _ (by omega) (by omega) (by omega)]; exact Y.g.left p hp
  · have hp' : p < A.g.nP := hp
    rw [upT _ (by omega) (by omega) (by omega)]; exact Y.g.kn p hp
  · have hp' : p < A.g.nP := hp
    rw [upT _ (by omega) (by omega) (by omega)]; exact Y.g.kid p k hp hk
  · have hp' : p < A.g.nP := hp
    rw [upT _ (by omega) (by omega) (by omega)]; exact Y.g.ask p o hp ho
  · exact TwC.eqv (G := A.g) Y.k hP (fun i hi => upT i (by omega) (by omega) (by omega))
  · rw [upT 2 (by omega) (by omega) (by omega)]; exact Y.z
  · rw [upT 3 (by omega) (by omega) (by omega)]; exact Y.m
  · have hs' : s < A.g.nS + 1 := hs
    show TwN U 4 s (updN A.sn A.g.nS w s)
    by_cases e : s = A.g.nS
    · rw [e, updN_same]; exact Z.nm
    · rw [updN_ne _ _ e]
      unfold TwN
      rw [Z.l s e (by omega)]; exact Y.sn s (by omega)
  · have hp' : p < A.g.nP := hp
    show TwN U 4 (8 + p) (A.pn p)
    unfold TwN
    rw [Z.l _ (by omega) (by omega)]; exact Y.pn p hp
  · have hs' : s < A.g.nS + 1 := hs
    have ha' : a < updN A.g.cnt A.g.nS (ic + oc) s := ha
    show TwN U 4 (20 + 8 * s + a) (updN A.an A.g.nS an s a)
    by_cases e : s = A.g.nS
    · rw [e, updN_same] at ha'
      rw [e, updN_same]; exact Z.e a ha'
    · rw [updN_ne _ _ e] at ha'
      have h8' := Y.w.cnt8 (s := s) (by omega)
      rw [updN_ne _ _ e]
      unfold TwN
      rw [Z.l _ (by omega) (by omega)]; exact Y.an s a (by omega) ha'

theorem TwG.go {U : TS} (Y : TwG T 2 4 A c) (F : Tcw [] LsR [] T U) : TwG U 2 4 A c :=
  ⟨by rw [F.a 2 (by decide)]; exact Y.g, by rw [F.a 2 (by decide)]; exact Y.k, by rw [F.a 2 (by decide)]; exact Y.z, by rw [F.a 2 (by decide)]; exact Y.m, fun s hs => by unfold TwN; rw [F.l 4 (by decide)]; exact Y.sn s hs, fun s hs => by unfold TwN; rw [F.l 4 (by decide)]; exact Y.pn s hs, fun s a hs ha => by unfold TwN; rw [F.l 4 (by decide)]; exact Y.an s a hs ha, Y.w, Y.rl, by rw [F.a 2 (by decide)]; exact Y.cb⟩

theorem pAt_le : ∀ {f : Nat} {t : Tk} {an an' : Nat → List Nat} {c had c' : Nat} {t' : Tk}, pAt tp n f t an c had = .ok (an', c', t') → c ≤ c'
  | 0, _, _, _, _, _, _, _, h => by
    have h' : (Except.error _ : Except Fl _) = .ok _ := h
    exact absurd h' (by simp)
  | f + 1, t, an, an', c, had, c', t', h => by
    unfold pAt at h
    by_cases h1 : isNm tp t = true
    · rw [if_pos h1] at h
      by_cases h2 : (fdN an c (wrd tp t)).isSome = true
      · rw [if_pos h2] at h; exact absurd h (by simp)
      · rw [if_neg h2] at h
        by_cases h3 : c - had = 4
        · rw [if_pos h3] at h; exact absurd h (by simp)
        · rw [if_neg h3] at h
          by_cases h4 : isNm tp (nxt tp n t) = true
          · rw [if_pos h4] at h
            have := pAt_le h
            omega
          · rw [if_neg h4] at h
            have := Except.ok.inj h
            have := (Prod.mk.inj (Prod.mk.inj this).2).1
            omega
    · rw [if_neg h1] at h; exact absurd h (by simp)

theorem pt_readSymbol (K : TwT T tp n t) (Y : TwG T 2 4 A c) {Q : Int32 → TS → Prop} (h1 : ∀ U A' t', pSy tp n A t = .ok (A', t') → Tcw [2] LsR [4] T U → TwG U 2 4 A' c → TwT U tp n t' → Q 1 U) (h2 : ∀ U f, pSy tp n A t = .error f → Tcw [2] LsR [4] T U → TwF U f → Q 0 U) : wp_X1_readSymbol T Q := by
  have hS := Y.w.nS
  generalize hR : pSy tp n A t = R at h1 h2
  unfold pSy at hR
  unfold wp_X1_readSymbol
  refine ⟨tix_I (k := 0) rfl (by decide) (by decide), ?_⟩
  rw [show ni 0 = 0 from rfl, Y.g.nS]
  by_cases h8 : A.g.nS = 8
  · rw [if_pos h8] at hR
    refine brT (by rw [h8]; rfl) ?_
    refine pt_bad (k := 6) K (by decide) ?_
    intro U F f
    exact ⟨.inl rfl, h2 U _ hR.symm (F.mono (by decide) (by decide) (by decide)) f⟩
  rw [if_neg h8] at hR
  have hs8 : A.g.nS < 8 := by omega
  refine brF (fun hh => h8 ((eq_L 8 (by decide) (by omega)).1 hh)) ?_
  refine pt_nxt K ?_
  intro U1 F1 K1
  have Y1 := Y.go (F1.mono (by decide) (by decide) (by decide))
  refine pt_isName K1 ?_
  by_cases hn : isNm tp (nxt tp n t) = true
  rotate_left
  · rw [if_neg hn] at hR ⊢
    refine brT rfl ?_
    refine pt_bad (k := 2) K1 (by decide) ?_
    intro U F f
    exact ⟨.inl rfl, h2 U _ hR.symm ((F1.mono (by decide) (by decide) (by decide)).trans (F.mono (by decide) (by decide) (by decide))) f⟩
  rw [if_pos hn] at hR ⊢
  have hk2 := (isNm_iff.1 hn).1
  refine brF (by decide) ?_
  rw [K1.wd hk2]
  refine pt_findIn (b := 0) (f := A.sn) ⟨.inr rfl, by omega⟩ (fun k hk => by rw [Nat.zero_add]; exact Y1.sn k hk) (K1.wl hk2) ?_
  cases hf : fdN A.sn A.g.nS (wrd tp (nxt tp n t)) with
  | some j =>
    rw [hf, if_pos (show (some j).isSome = true from rfl)] at hR
    have hj := (fstN_some.1 hf).1
    refine brF (I_neg1_ne (by omega)) ?_
    refine pt_bad (k := 4) K1 (by decide) ?_
    intro U F f
    exact ⟨.inl rfl, h2 U _ hR.symm ((F1.mono (by decide) (by decide) (by decide)).trans (F.mono (by decide) (by decide) (by decide))) f⟩
  | none =>
  rw [hf, if_neg (show ¬ (none : Option Nat).isSome = true by decide)] at hR
  refine brT rfl ?_
  (try simp (disch := omega) only [L_le, le_L, L_lt, lt_L, eq_L, L_eq, I_le, I_lt, I_eq, I_ni, add_L, L_add, I_add, mul_L, L_mul, I_mul, sub_L, L_sub, I_sub, div_L, rem_L])
  rw [Nat.zero_add, K1.wd hk2]
  refine ⟨tix_I rfl (by show _ < 84; omega) (by decide), ?_⟩
  intro U2 hU2
  refine ⟨tix_I rfl (by show _ < 3816; omega) (by decide), ?_⟩
  intro U3 hU3
  refine ⟨tix_I rfl (by show _ < 3816; omega) (by decide), ?_⟩
  intro U4 hU4
  have F14 : Tcw [2] [] [4] U1 U4 := by rw [hU4, hU3, hU2]; exact (((Tcw.refl U1).sl (by decide) _ _).sa (by decide) _ _).sa (by decide) _ _
  have K4 : TwT U4 tp n (nxt tp n t) := K1.keep F14 (by rw [hU4, hU3, hU2]; rfl) (by decide) (by decide)
  have a4 : U4.a 2 = updN (updN (U1.a 2) (4 + A.g.nS) 0) (12 + A.g.nS) 0 := by
    rw [hU4, sa_at, hU3, sa_at, hU2]; rfl
  have l4 : U4.l 4 = updN (U1.l 4) A.g.nS (Jw (cdW (wrd tp (nxt tp n t)))) := by
    rw [hU4]
    show U3.l 4 = _
    rw [hU3]
    show U2.l 4 = _
    rw [hU2, sl_at]
  have Z4 : TwS T U4 A.g.nS 0 0 (wrd tp (nxt tp n t)) (fun _ => []) := by
    refine ⟨(F1.mono (by decide) (by decide) (by decide)).trans (F14.mono (by decide) (by decide) (by decide)), fun i i1 i2 => ?_, ?_, ?_, fun i i1 i2 => ?_, ?_, fun k hk => absurd hk (Nat.not_lt_zero _)⟩
    · rw [a4, updN_ne _ _ i2, updN_ne _ _ i1, F1.a 2 (by decide)]
    · rw [a4, updN_ne _ _ (by omega), updN_same]; rfl
    · rw [a4, updN_same]; rfl
    · rw [l4, updN_ne _ _ i1, F1.l 4 (by decide)]
    · unfold TwN
      rw [l4, updN_same]; exact ⟨rfl, K1.wl hk2⟩
  refine pt_nxt K4 ?_
  intro U5 F5 K5
  have Z5 := Z4.go F5
  -- the end
  have fin : ∀ (V : TS) (ic oc : Nat) (an : Nat → List Nat) (t' : Tk), TwS T V A.g.nS ic oc (wrd tp (nxt tp n t)) an → TwT V tp n t' → ic ≤ 4 → oc ≤ 4 → R = .ok (A.addS (wrd tp (nxt tp n t)) ic (ic + oc) an, t') → ∀ V', V' = V.sa 2 0 (V.a 2 0 + 1) → Q 1 V' := by
    intro V ic oc an t' ZV KV hi ho hR' V' hV'
    have e0 : V.a 2 0 + 1 = I (A.g.nS + 1) := by
      rw [ZV.a 0 (by omega) (by omega), Y.g.nS]
      (try simp (disch := omega) only [L_le, le_L, L_lt, lt_L, eq_L, L_eq, I_le, I_lt, I_eq, I_ni, add_L, L_add, I_add, mul_L, L_mul, I_mul, sub_L, L_sub, I_sub, div_L, rem_L])
    rw [e0] at hV'
    have FV : Tcw [2] [] [] V V' := by rw [hV']; exact (Tcw.refl V).sa (by decide) _ _
    refine h1 V' _ t' hR' (ZV.F.trans (FV.mono (by decide) (by decide) (by decide))) (by rw [hV']; exact TwS.fin Y hs8 ZV hi ho) (KV.keep FV (by rw [hV']; rfl) (by decide) (by decide))
  -- outs
  have outs : ∀ (V : TS) (ic : Nat) (an : Nat → List Nat) (t' : Tk), TwS T V A.g.nS ic 0 (wrd tp (nxt tp n t)) an → TwT V tp n t' → ic ≤ 4 →
      (match pSd tp n 4 t' an ic with
        | .error e => .error e
        | .ok r => .ok (A.addS (wrd tp (nxt tp n t)) ic r.2.1 r.1, r.2.2)) = R →
      wp_X1_isWord 4 V fun r34 T33 =>
        ((r34 = 0 → tix 2 40 0 ∧ tix 2 40 0 ∧ ∀ T36, T36 = T33.sa 2 0 (T33.a 2 0 + 1) → Q 1 T36) ∧
         (¬ r34 = 0 → wp_X1_go T33 fun T37 => wp_X1_readAttributes (I A.g.nS) 12 T37 fun r40 T39 =>
            ((r40 = 0 → Q 0 T39) ∧ (¬ r40 = 0 → tix 2 40 0 ∧ tix 2 40 0 ∧ ∀ T42, T42 = T39.sa 2 0 (T39.a 2 0 + 1) → Q 1 T42)))) := by
    intro V ic an t' ZV KV hi hR'
    refine pt_isWord (k := 4) KV (by decide) ?_
    unfold pSd at hR'
    by_cases hw : isW tp t' 4 = true
    · rw [if_pos hw] at hR' ⊢
      refine brF (by decide) ?_
      refine pt_nxt KV ?_
      intro V1 G1 KV1
      have ZV1 := ZV.go G1
      refine pt_readAttributes (s := A.g.nS) (kk := 12) (ic := ic) (c := ic) (an := an) hs8 (.inr ⟨rfl, ZV1.v1⟩) hi rfl KV1 ZV1.v2 (fun k hk => ZV1.e k (by omega)) ?_ ?_
      · intro V2 an' c' t2 e2 hc' B2 KV2
        rw [e2] at hR'
        have hic : ic ≤ c' := by
          have := pAt_le e2
          exact this
        refine brF (by decide) ⟨tix_I (k := 0) rfl (by decide) (by decide), tix_I (k := 0) rfl (by decide) (by decide), ?_⟩
        refine fin V2 ic (c' - ic) an' t2 (ZV1.outs hs8 hic B2) KV2 hi (by omega) ?_
        rw [show ic + (c' - ic) = c' by omega]
        exact hR'.symm
      · intro V2 f e2 G2 f2
        rw [e2] at hR'
        exact brT rfl (h2 V2 f hR'.symm (ZV1.F.trans (G2.mono (by decide) (by decide) (by decide))) f2)
    · rw [if_neg hw] at hR' ⊢
      refine brT rfl ⟨tix_I (k := 0) rfl (by decide) (by decide), tix_I (k := 0) rfl (by decide) (by decide), ?_⟩
      exact fin V ic 0 an t' ZV KV hi (by omega) hR'.symm
  refine pt_isWord (k := 3) K5 (by decide) ?_
  unfold pSd at hR
  by_cases hw : isW tp (nxt tp n (nxt tp n t)) 3 = true
  · rw [if_pos hw] at hR ⊢
    refine brF (by decide) ?_
    refine pt_nxt K5 ?_
    intro U6 F6 K6
    have Z6 := Z5.go F6
    refine pt_readAttributes (s := A.g.nS) (kk := 4) (ic := 0) (c := 0) (an := fun _ => []) hs8 (.inl ⟨rfl, rfl, Z6.v2⟩) (by omega) rfl K6 Z6.v1 (fun k hk => absurd hk (Nat.not_lt_zero _)) ?_ ?_
    · intro U7 an' c' t7 e7 hc' B7 K7
      rw [e7] at hR
      refine brF (by decide) ?_
      exact outs U7 c' an' t7 (Z6.ins hs8 B7) K7 (by omega) hR
    · intro U7 f e7 G7 f7
      rw [e7] at hR
      exact brT rfl (h2 U7 f hR.symm (Z6.F.trans (G7.mono (by decide) (by decide) (by decide))) f7)
  · rw [if_neg hw] at hR ⊢
    refine brT rfl ?_
    exact outs U5 0 (fun _ => []) _ Z5 K5 (by omega) hR
end
