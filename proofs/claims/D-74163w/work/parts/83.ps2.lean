/-! plain: ps2 -/
set_option maxRecDepth 100000
section
variable {T : TS} {tp : Nat → Nat} {n : Nat} {t : Tk} {A : PG}

/-- a name as it lies there. -/
def TwN (T : TS) (r i : Nat) (w : List Nat) : Prop := T.l r i = Jw (cdW w) ∧ lts w ∧ w.length ≤ 8
/-- how many rules. -/
noncomputable def nRl (G : Gv) : Nat := sN (fun p => cnP (fun o => G.rl p o ≠ none) 32) G.nP

/-- a grammar as the twin reads it: in the array j, names in r. -/
def TwG (T : TS) (j r : Nat) (A : PG) (c : Nat) : Prop :=
  (TG (T.a j) A.g) ∧
  (TwC (T.a j) A.g) ∧
  (T.a j 2 = I (nRl A.g)) ∧
  (T.a j 3 = I c) ∧
  (∀ s, s < A.g.nS → TwN T r s (A.sn s)) ∧
  (∀ p, p < A.g.nP → TwN T r (8 + p) (A.pn p)) ∧
  (∀ s a, s < A.g.nS → a < A.g.cnt s → TwN T r (20 + 8 * s + a) (A.an s a)) ∧
  (A.g.WF) ∧
  (A.g.RL) ∧
  (∀ p o e f, p < A.g.nP → o < 32 → A.g.rl p o = some e → f + e.length ≤ 1100 → T.a j (80 + 32 * p + o) = I f → f + e.length ≤ c)
theorem TwG.g {T : TS} {j r : Nat} {A : PG} {c : Nat} (h9 : TwG T j r A c) : TG (T.a j) A.g := h9.1
theorem TwG.k {T : TS} {j r : Nat} {A : PG} {c : Nat} (h9 : TwG T j r A c) : TwC (T.a j) A.g := h9.2.1
theorem TwG.z {T : TS} {j r : Nat} {A : PG} {c : Nat} (h9 : TwG T j r A c) : T.a j 2 = I (nRl A.g) := h9.2.2.1
theorem TwG.m {T : TS} {j r : Nat} {A : PG} {c : Nat} (h9 : TwG T j r A c) : T.a j 3 = I c := h9.2.2.2.1
theorem TwG.sn {T : TS} {j r : Nat} {A : PG} {c : Nat} (h9 : TwG T j r A c) : ∀ s, s < A.g.nS → TwN T r s (A.sn s) := h9.2.2.2.2.1
theorem TwG.pn {T : TS} {j r : Nat} {A : PG} {c : Nat} (h9 : TwG T j r A c) : ∀ p, p < A.g.nP → TwN T r (8 + p) (A.pn p) := h9.2.2.2.2.2.1
theorem TwG.an {T : TS} {j r : Nat} {A : PG} {c : Nat} (h9 : TwG T j r A c) : ∀ s a, s < A.g.nS → a < A.g.cnt s → TwN T r (20 + 8 * s + a) (A.an s a) := h9.2.2.2.2.2.2.1
theorem TwG.w {T : TS} {j r : Nat} {A : PG} {c : Nat} (h9 : TwG T j r A c) : A.g.WF := h9.2.2.2.2.2.2.2.1
theorem TwG.rl {T : TS} {j r : Nat} {A : PG} {c : Nat} (h9 : TwG T j r A c) : A.g.RL := h9.2.2.2.2.2.2.2.2.1
theorem TwG.cb {T : TS} {j r : Nat} {A : PG} {c : Nat} (h9 : TwG T j r A c) : ∀ p o e f, p < A.g.nP → o < 32 → A.g.rl p o = some e → f + e.length ≤ 1100 → T.a j (80 + 32 * p + o) = I f → f + e.length ≤ c := h9.2.2.2.2.2.2.2.2.2

theorem TG.eqv {a b : Nat → Int32} {G : Gv} (K : TG a G) (W : G.WF) (h : ∀ i, i ≠ 4 + G.nS → i ≠ 12 + G.nS → i ≠ 2 → i ≠ 3 → i < 1616 → b i = a i) (h8 : G.nS < 8) : TG b G := by
  have hP := W.nP
  refine ⟨?_, ?_, fun s hs => ?_, fun s hs => ?_, fun p hp => ?_, fun p hp => ?_, fun p k hp hk => ?_, fun p o hp ho => ?_⟩
  · rw [h 0 (by omega) (by omega) (by omega) (by omega) (by omega)]; exact K.nS
  · rw [h 1 (by omega) (by omega) (by omega) (by omega) (by omega)]; exact K.nP
  · rw [h (4 + s) (by omega) (by omega) (by omega) (by omega) (by omega)]; exact K.ins s hs
  · rw [h (12 + s) (by omega) (by omega) (by omega) (by omega) (by omega)]; exact K.outs s hs
  · rw [h (20 + p) (by omega) (by omega) (by omega) (by omega) (by omega)]; exact K.left p hp
  · rw [h (32 + p) (by omega) (by omega) (by omega) (by omega) (by omega)]; exact K.kn p hp
  · have := W.kn p hp
    rw [h (44 + 3 * p + k) (by omega) (by omega) (by omega) (by omega) (by omega)]; exact K.kid p k hp hk
  · rw [h (848 + 32 * p + o) (by omega) (by omega) (by omega) (by omega) (by omega)]; exact K.ask p o hp ho
theorem TwC.eqv {a b : Nat → Int32} {G : Gv} (K : TwC a G) (hP : G.nP ≤ 12) (h : ∀ i, 20 ≤ i → b i = a i) : TwC b G := by
  refine ⟨fun p o hp ho he => ?_, fun p o e hp ho he => ?_⟩
  · rw [h _ (by omega), h _ (by omega), h _ (by omega)]; exact K.cn p o hp ho he
  · obtain ⟨f, c1, c2, c3, c4, c5⟩ := K.cs p o e hp ho he
    refine ⟨f, by rw [h _ (by omega)]; exact c1, by rw [h _ (by omega)]; exact c2, by rw [h _ (by omega)]; exact c3, c4, fun i hi => ?_⟩
    rw [h _ (by omega), h _ (by omega)]; exact c5 i hi

/-- what a reading of attributes leaves: counts, names. -/
def TwA (T0 T : TS) (s kk had c : Nat) (an : Nat → List Nat) : Prop :=
  (Tcw [2] [211, 212, 213, 214, 215] [4] T0 T) ∧
  (∀ i, i ≠ kk + s → T.a 2 i = T0.a 2 i) ∧
  (T.a 2 (kk + s) = I (c - had)) ∧
  (∀ i, i < 20 + 8 * s ∨ 28 + 8 * s ≤ i → T.l 4 i = T0.l 4 i) ∧
  (∀ k, k < c → TwN T 4 (20 + 8 * s + k) (an k))
theorem TwA.F {T0 T : TS} {s kk had c : Nat} {an : Nat → List Nat} (h9 : TwA T0 T s kk had c an) : Tcw [2] [211, 212, 213, 214, 215] [4] T0 T := h9.1
theorem TwA.a {T0 T : TS} {s kk had c : Nat} {an : Nat → List Nat} (h9 : TwA T0 T s kk had c an) : ∀ i, i ≠ kk + s → T.a 2 i = T0.a 2 i := h9.2.1
theorem TwA.v {T0 T : TS} {s kk had c : Nat} {an : Nat → List Nat} (h9 : TwA T0 T s kk had c an) : T.a 2 (kk + s) = I (c - had) := h9.2.2.1
theorem TwA.l {T0 T : TS} {s kk had c : Nat} {an : Nat → List Nat} (h9 : TwA T0 T s kk had c an) : ∀ i, i < 20 + 8 * s ∨ 28 + 8 * s ≤ i → T.l 4 i = T0.l 4 i := h9.2.2.2.1
theorem TwA.e {T0 T : TS} {s kk had c : Nat} {an : Nat → List Nat} (h9 : TwA T0 T s kk had c an) : ∀ k, k < c → TwN T 4 (20 + 8 * s + k) (an k) := h9.2.2.2.2

theorem pt_readAttributes {s kk ic c : Nat} {an : Nat → List Nat} (hs : s < 8) (hkk : (kk = 4 ∧ ic = 0 ∧ T.a 2 (12 + s) = 0) ∨ (kk = 12 ∧ T.a 2 (4 + s) = I ic)) (h4 : ic ≤ 4) (hc : c = ic) (K : TwT T tp n t) (hv : T.a 2 (kk + s) = 0) (hN : ∀ k, k < c → TwN T 4 (20 + 8 * s + k) (an k)) {Q : Int32 → TS → Prop}
    (h1 : ∀ U an' c' t', pAt tp n 6 t an c c = .ok (an', c', t') → c' ≤ c + 4 → TwA T U s kk ic c' an' → TwT U tp n t' → Q 1 U)
    (h2 : ∀ U f, pAt tp n 6 t an c c = .error f → Tcw [2] [211, 212, 213, 214, 215, 216, 217] [4] T U → TwF U f → Q 0 U) : wp_X1_readAttributes (I s) (I kk) T Q := by
  subst hc
  generalize hR0 : pAt tp n 6 t an c c = R at h1 h2
  have hk12 : kk ≤ 12 := by rcases hkk with h | h <;> omega
  unfold wp_X1_readAttributes
  refine tlp_cnt 5 (fun k _ U => ∃ t' an', k ≤ 4 ∧ TwT U tp n t' ∧ TwA T U s kk c (c + k) an' ∧ pAt tp n (6 - k) t' an' (c + k) c = R) ⟨t, an, by omega, K, ⟨Tcw.refl T, fun _ _ => rfl, by rw [hv, Nat.add_zero, Nat.sub_self]; rfl, fun _ _ => rfl, hN⟩, hR0⟩ ?_
  intro k _ U K2 hk hh hK
  obtain ⟨t', an', hk4, KU, Z, hR⟩ := hh
  have hat : U.a 2 (4 + s) + U.a 2 (12 + s) = I (c + k) := by
    rcases hkk with ⟨e1, e2, e3⟩ | ⟨e1, e2⟩
    · subst e1
      subst e2
      rw [Z.v, Z.a (12 + s) (by omega), e3, Nat.sub_zero]
      exact Int32.add_zero _
    · subst e1
      rw [Z.v, Z.a (4 + s) (by omega), e2, I_add]
      congr 1
      omega
  refine pt_isName KU ?_
  rw [show 6 - k = (5 - k) + 1 by omega] at hR
  unfold pAt at hR
  by_cases hn : isNm tp t' = true
  rotate_left
  · rw [if_neg hn] at hR ⊢
    refine brT rfl ?_
    refine pt_bad (k := 2) KU (by decide) ?_
    intro U1 F1 f1
    exact ⟨.inl rfl, h2 U1 _ hR.symm ((Z.F.mono (by decide) (by decide) (by decide)).trans (F1.mono (by decide) (by decide) (by decide))) f1⟩
  rw [if_pos hn] at hR ⊢
  refine brF (by decide) ?_
  have h2k := (isNm_iff.1 hn).1
  -- attributesIn
  have hatt : ∀ Q2 : Int32 → TS → Prop, Q2 (I (c + k)) U → wp_X1_attributesIn 2 (I s) U Q2 := fun Q2 hq => by
    unfold wp_X1_attributesIn
    (try simp (disch := omega) only [L_le, le_L, L_lt, lt_L, eq_L, L_eq, I_le, I_lt, I_eq, I_ni, add_L, L_add, I_add, mul_L, L_mul, I_mul, sub_L, L_sub, I_sub, div_L, rem_L])
    refine ⟨tix_I rfl (by show _ < 3816; omega) (by decide), tix_I rfl (by show _ < 3816; omega) (by decide), ?_⟩
    rw [hat]
    exact hq
  refine hatt _ ?_
  rw [KU.wd h2k]
  have ei : (20 : Int32) + 8 * I s = I (20 + 8 * s) := by (try simp (disch := omega) only [L_le, le_L, L_lt, lt_L, eq_L, L_eq, I_le, I_lt, I_eq, I_ni, add_L, L_add, I_add, mul_L, L_mul, I_mul, sub_L, L_sub, I_sub, div_L, rem_L])
  rw [ei]
  refine pt_findIn (f := an') ⟨.inr rfl, by omega⟩ (fun j hj => Z.e j hj) (KU.wl h2k) ?_
  cases hf : fdN an' (c + k) (wrd tp t') with
  | some j =>
    rw [hf, if_pos (show (some j).isSome = true from rfl)] at hR
    have hj := (fstN_some.1 hf).1
    refine brF (I_neg1_ne (by omega)) ?_
    refine pt_bad (k := 4) KU (by decide) ?_
    intro U1 F1 f1
    exact ⟨.inl rfl, h2 U1 _ hR.symm ((Z.F.mono (by decide) (by decide) (by decide)).trans (F1.mono (by decide) (by decide) (by decide))) f1⟩
  | none =>
    rw [hf, if_neg (show ¬ (none : Option Nat).isSome = true by decide)] at hR
    refine brT rfl ?_
    (try simp (disch := omega) only [L_le, le_L, L_lt, lt_L, eq_L, L_eq, I_le, I_lt, I_eq, I_ni, add_L, L_add, I_add, mul_L, L_mul, I_mul, sub_L, L_sub, I_sub, div_L, rem_L])
    refine ⟨tix_I rfl (by show _ < 3816; omega) (by decide), ?_⟩
    rw [Z.v, show c + k - c = k by omega]
    rw [show c + k - c = k by omega] at hR
    by_cases hk4' : k = 4
    · rw [if_pos hk4'] at hR
      refine brT (by rw [hk4']; rfl) ?_
      refine pt_bad (k := 6) KU (by decide) ?_
      intro U1 F1 f1
      exact ⟨.inl rfl, h2 U1 _ hR.symm ((Z.F.mono (by decide) (by decide) (by decide)).trans (F1.mono (by decide) (by decide) (by decide))) f1⟩
    rw [if_neg hk4'] at hR
    refine brF (fun hh => hk4' ((eq_L 4 (by decide) (by omega)).1 hh)) ?_
    refine hatt _ ?_
    rw [KU.wd h2k]
    (try simp (disch := omega) only [L_le, le_L, L_lt, lt_L, eq_L, L_eq, I_le, I_lt, I_eq, I_ni, add_L, L_add, I_add, mul_L, L_mul, I_mul, sub_L, L_sub, I_sub, div_L, rem_L])
    refine ⟨tix_I rfl (by show _ < 84; omega) (by decide), ?_⟩
    intro U1 hU1
    refine ⟨tix_I rfl (by show _ < 3816; omega) (by decide), tix_I rfl (by show _ < 3816; omega) (by decide), ?_⟩
    have a1 : U1.a 2 = U.a 2 := by rw [hU1]; rfl
    rw [a1, Z.v, show c + k - c = k by omega]
    (try simp (disch := omega) only [L_le, le_L, L_lt, lt_L, eq_L, L_eq, I_le, I_lt, I_eq, I_ni, add_L, L_add, I_add, mul_L, L_mul, I_mul, sub_L, L_sub, I_sub, div_L, rem_L])
    intro U2 hU2
    have F1 : Tcw [2] [211, 212, 213, 214, 215] [4] T U1 := by rw [hU1]; exact Z.F.sl (by decide) _ _
    have F2 : Tcw [2] [211, 212, 213, 214, 215] [4] T U2 := by rw [hU2]; exact F1.sa (by decide) _ _
    have w2 : U2.w 218 = U.w 218 := by rw [hU2, hU1]; rfl
    have KU2 : TwT U2 tp n t' := KU.keep (A := [2]) (S := []) (L := [4]) (by rw [hU2, hU1]; exact ((Tcw.refl U).sl (by decide) _ _).sa (by decide) _ _) w2 (by decide) (by decide)
    have a2 : U2.a 2 = updN (U.a 2) (kk + s) (I (k + 1)) := by rw [hU2, sa_at, a1]
    have l2 : U2.l 4 = updN (U.l 4) (20 + 8 * s + (c + k)) (Jw (cdW (wrd tp t'))) := by
      rw [hU2]
      show U1.l 4 = _
      rw [hU1, sl_at]
    refine pt_nxt KU2 ?_
    intro U3 F3 KU3
    have Z3 : TwA T U3 s kk c (c + k + 1) (updN an' (c + k) (wrd tp t')) := by
      refine ⟨F2.trans (F3.mono (by decide) (by decide) (by decide)), fun i hi => ?_, ?_, fun i hi => ?_, fun j hj => ?_⟩
      · rw [F3.a 2 (by decide), a2, updN_ne _ _ hi]; exact Z.a i hi
      · rw [F3.a 2 (by decide), a2, updN_same]; congr 1; omega
      · rw [F3.l 4 (by decide), l2, updN_ne _ _ (by omega)]; exact Z.l i hi
      · unfold TwN
        rw [F3.l 4 (by decide), l2]
        by_cases ej : j = c + k
        · rw [ej, updN_same, updN_same]; exact ⟨rfl, KU.wl h2k⟩
        · rw [updN_ne _ _ (by omega), updN_ne _ _ ej]; exact Z.e j (by omega)
    refine pt_isName KU3 ?_
    by_cases hn2 : isNm tp (nxt tp n t') = true
    · rw [if_pos hn2] at hR ⊢
      refine brF (by decide) (hK _ _ (by omega) ⟨_, _, by omega, KU3, Z3, ?_⟩)
      rw [show 6 - (k + 1) = 5 - k by omega]
      exact hR
    · rw [if_neg hn2] at hR ⊢
      refine brT rfl ?_
      exact h1 U3 _ _ _ hR.symm (by omega) Z3 KU3
end
