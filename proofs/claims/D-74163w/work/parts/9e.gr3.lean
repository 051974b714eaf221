/-! plain: gr3 -/
set_option maxRecDepth 100000
section
variable {T U : TS} {X : AX} {x y : Int32} {A : PG} {V : Tv} {gv : Nat → Int32} {sz : Nat → Nat} {k : Nat} {P : PT}

def gDue (S : Ist) (k s m c i : Nat) : Prop := (i / 8 < k ∧ S.tie (8 * k) (8 * (k + s)) i) ∨ (i / 8 = k ∧ (c ≤ i % 8 ∨ S.tie (8 * k) (8 * (k + s)) i)) ∨ (k < i / 8 ∧ i / 8 < k + m) ∨ (k + m ≤ i / 8 ∧ S.tie (8 * k) (8 * (k + s)) (i + 8 * s - 8 * m))
def gNew (k m i : Nat) : Prop := k < i / 8 ∧ i / 8 < k + m
def gOld (old : Nat → Int32) (k s m i : Nat) : Int32 := if i / 8 ≤ k then old i else old (i + 8 * s - 8 * m)

noncomputable def xGraft (X : AX) (x y : Int32) : AX :=
  cif (inR y (X.m + 1)) (match X.tr with
    | none => X.ws 3
    | some r => match X.gr with
      | none => X
      | some q => cif (inR x r.1.n) (match pTr X.tp (ni y) q.1 (r.1.n - r.2.1 (ni x)) (some (r.1.sm q.1.g (ni x))) (r.1.dp (ni x)) with
        | .error f => AX.mk 0 X.tp 9 (I f.1) (I f.2) X.gr X.tr X.an
        | .ok P => (AX.mk 0 X.tp X.st 0 (-1) X.gr X.tr X.an).cg q.1 (r.1.spl r.2.1 (ni x) P) (splZ r.2.1 (ni x) P) r.2.2 (gDue X.S (ni x) (r.2.1 (ni x)) P.V.n (q.1.g.ins (r.1.sm q.1.g (ni x)))) (gNew (ni x) P.V.n) (gOld X.S.val (ni x) (r.2.1 (ni x)) P.V.n)) (X.ws 4)) (X.ws 1)
noncomputable def qGraft (X : AX) (x y : Int32) : Int32 :=
  cif (inR y (X.m + 1)) (match X.tr with
    | none => -1
    | some r => match X.gr with
      | none => 0
      | some q => cif (inR x r.1.n) (match pTr X.tp (ni y) q.1 (r.1.n - r.2.1 (ni x)) (some (r.1.sm q.1.g (ni x))) (r.1.dp (ni x)) with
        | .error _ => -1
        | .ok P => I (r.1.n + P.V.n - r.2.1 (ni x))) (-1)) (-1)

theorem iP_one {v : Int32} (h : v = 0 ∨ v = 1) : v = iP (v = 1) := by
  rcases h with e | e
  · rw [e, iP_neg (by decide)]
  · rw [e, iP_pos rfl]
theorem iP_01 (p : Prop) : iP p = 0 ∨ iP p = 1 := by
  by_cases h : p
  · exact .inr (iP_pos h)
  · exact .inl (iP_neg h)
theorem iP_eq1 {p : Prop} : iP p = 1 ↔ p := by
  by_cases h : p
  · rw [iP_pos h]; exact ⟨fun _ => h, fun _ => rfl⟩
  · rw [iP_neg h]; exact ⟨fun e => absurd e (by decide), fun hh => absurd hh h⟩

/-- the part that comes is laid in; from where all but that stands. -/
theorem pt_laysIn {T : TS} {n m s : Nat} (K : trK A V sz) (KP : trK A P.V P.sz) (hk : k < V.n) (h40 : V.n + P.V.n - sz k ≤ 40) (hsy : A.g.sy (P.V.pd 0) 0 = A.g.sy (V.pd k) 0) (hdp : P.V.dp 0 = V.dp k) (W : A.g.WF)
    (hn : T.s 250 = I V.n) (hm : T.s 251 = I P.V.n) (g1 : TG (T.a 1) A.g) (g2 : TwC (T.a 1) A.g) (hg : ∀ a, a < 4 → T.a 25 a = gv a)
    (d1 : ∀ q, q < P.V.n → T.a 22 q = I (P.V.pd q)) (d2 : ∀ q, q < P.V.n → T.a 23 q = P.V.nu q) (d3 : ∀ q, q < P.V.n → T.a 24 q = oI (P.V.pa q))
    (c1 : ∀ e, e < k → T.a 19 e = I (V.pd e) ∧ T.a 20 e = V.nu e) (c2 : ∀ e, e ≤ k → T.a 21 e = oI (V.pa e)) (c3 : ∀ e, k + sz k ≤ e → e < V.n → T.a 19 (e + P.V.n - sz k) = I (V.pd e) ∧ T.a 20 (e + P.V.n - sz k) = V.nu e ∧ ∀ q, V.pa e = some q → T.a 21 (e + P.V.n - sz k) = I (rnU k (sz k) P.V.n q))
    (b39 : ∀ j, j < 320 → T.a 39 j = 0 ∨ T.a 39 j = 1) (b40 : ∀ j, j < 320 → (j < 8 * (k + 1) ∨ 8 * (k + P.V.n) ≤ j) → j < 8 * (V.n + P.V.n - sz k) → T.a 40 j = 0) (b40' : ∀ j, j < 320 → T.a 40 j = 0 ∨ T.a 40 j = 1) {above : Int32} (hab : above = oI (V.pa k)) {Q : Int32 → TS → Prop} {R : TS → Prop}
    (h : ∀ U, Tch [19, 20, 21, 39, 40] [250] T U → TwI U A.g (V.spl sz k P) gv → (∀ j, j < 8 * k + A.g.ins (V.sm A.g k) → U.a 39 j = T.a 39 j) → (∀ j, 8 * k + A.g.ins (V.sm A.g k) ≤ j → j < 8 * k + A.g.cnt (V.sm A.g k) → U.a 39 j = 1) → (∀ j, 8 * (k + 1) ≤ j → j < 8 * (k + P.V.n) → U.a 39 j = 1 ∧ U.a 40 j = 1) → (∀ j, 8 * (k + P.V.n) ≤ j → U.a 39 j = T.a 39 j) → (∀ j, (j < 8 * (k + 1) ∨ 8 * (k + P.V.n) ≤ j) → U.a 40 j = T.a 40 j) → (∀ j, j < 320 → (U.a 39 j = 0 ∨ U.a 39 j = 1) ∧ (U.a 40 j = 0 ∨ U.a 40 j = 1)) → R U) :
    tlp (σ := Int32) (fun s29 T30 k29 =>
      (((T30.s 251) ≤ s29 →
      ∀ T32, T32 = T30.ss 250 ((T30.s 250) + ((I P.V.n) - (I (sz k)))) →
      wp_X1_symbolOf (I k) T32 fun r34 T33 =>
      tix 1 40 (4 + r34) ∧
      tlp (σ := Int32) (fun s35 T36 k35 =>
      wp_X1_symbolOf (I k) T36 fun r38 T37 =>
      wp_X1_attributes r38 T37 fun r40 T39 =>
      ((r40 ≤ s35 →
      R T39) ∧ (¬ r40 ≤ s35 →
      tix 39 42 ((8 * (I k)) + s35) ∧
      ∀ T46, T46 = T39.sa 39 (ni ((8 * (I k)) + s35)) (vp_nar .boolean 1) →
      k35 (s35 + 1) T46))) (T33.a 1 (ni (4 + r34))) T33) ∧ (¬ (T30.s 251) ≤ s29 →
      tix 22 40 s29 ∧
      tix 19 40 ((I k) + s29) ∧
      ∀ T47, T47 = T30.sa 19 (ni ((I k) + s29)) (T30.a 22 (ni s29)) →
      tix 23 40 s29 ∧
      tix 20 40 ((I k) + s29) ∧
      ∀ T48, T48 = T47.sa 20 (ni ((I k) + s29)) (T47.a 23 (ni s29)) →
      tjn (α := Int32) (fun J50 =>
      ((s29 = 0 →
      J50 above T48) ∧ (¬ s29 = 0 →
      tix 24 40 s29 ∧
      J50 ((T48.a 24 (ni s29)) + (I k)) T48))) (fun x52 T53 =>
      tix 21 40 ((I k) + s29) ∧
      ∀ T54, T54 = T53.sa 21 (ni ((I k) + s29)) x52 →
      tlp (σ := Int32) (fun s55 T56 k55 =>
      ((((8 ≤ s55) ∨ (s29 ≤ 0)) →
      k29 (s29 + 1) T56) ∧ (¬ ((8 ≤ s55) ∨ (s29 ≤ 0)) →
      tix 40 42 ((8 * ((I k) + s29)) + s55) ∧
      ∀ T59, T59 = T56.sa 40 (ni ((8 * ((I k) + s29)) + s55)) (vp_nar .boolean 1) →
      tix 39 42 ((8 * ((I k) + s29)) + s55) ∧
      ∀ T60, T60 = T59.sa 39 (ni ((8 * ((I k) + s29)) + s55)) (vp_nar .boolean 1) →
      k55 (s55 + 1) T60))) 0 T54)))) 0 T := by
  have ek := K.ends hk
  have m1 := KP.n1
  have m40 := KP.n40
  have v40 := K.n40
  have Z := spl_R (V := V) (sz := sz) (k := k) (P := P) ek.1 m1 ek.2
  have hnn := Z.nn
  have K' := Z.trK K KP hk (by show V.n + P.V.n - sz k ≤ 40; exact h40) hsy hdp
  refine tlp_cnt P.V.n (fun e q U => q = I e ∧ Tch [19, 20, 21, 39, 40] [] T U ∧ (∀ q, q < e → U.a 19 (k + q) = I (P.V.pd q) ∧ U.a 20 (k + q) = P.V.nu q ∧ U.a 21 (k + q) = (if q = 0 then oI (V.pa k) else oI ((P.V.pa q).map (· + k)))) ∧ (∀ j, j < k ∨ k + e ≤ j → U.a 19 j = T.a 19 j ∧ U.a 20 j = T.a 20 j ∧ U.a 21 j = T.a 21 j) ∧ (∀ j, 8 * (k + 1) ≤ j → j < 8 * (k + e) → U.a 39 j = 1 ∧ U.a 40 j = 1) ∧ (∀ j, (j < 8 * (k + 1) ∨ 8 * (k + e) ≤ j) → U.a 39 j = T.a 39 j ∧ U.a 40 j = T.a 40 j))
    ⟨rfl, Tch.refl T, fun q hq => absurd hq (by omega), fun j _ => ⟨rfl, rfl, rfl⟩, fun j h1 h2 => absurd h1 (by omega), fun j _ => ⟨rfl, rfl⟩⟩ ?_
  intro e q U KK he hh hK
  obtain ⟨hq, F, i1, i2, i3, i4⟩ := hh
  rw [hq, (F.s 251 (by decide)).trans hm]
  by_cases ee : e = P.V.n
  · subst ee
    refine brT (by (first | omega | ((try simp (disch := omega) only [L_le, le_L, L_lt, lt_L, eq_L, L_eq, I_le, I_lt, I_eq, I_ni, add_L, L_add, I_add, mul_L, L_mul, I_mul, sub_L, L_sub, I_sub, div_L, rem_L]); done) | ((try simp (disch := omega) only [L_le, le_L, L_lt, lt_L, eq_L, L_eq, I_le, I_lt, I_eq, I_ni, add_L, L_add, I_add, mul_L, L_mul, I_mul, sub_L, L_sub, I_sub, div_L, rem_L]); omega))) ?_
    rw [(F.s 250 (by decide)).trans hn, I_shift (by omega)]
    intro U2 hU2
    have F2 : Tch [19, 20, 21, 39, 40] [250] T U2 := by rw [hU2]; exact (Tch.ss ⟨F.a, fun f hf => F.s f (by simp), F.w, F.l⟩ (by decide) _)
    have a2 : ∀ j, U2.a j = U.a j := fun j => by rw [hU2]; rfl
    have J : TwI U2 A.g (V.spl sz k P) gv := by
      refine ⟨by rw [F2.a 1 (by decide)]; exact g1, by rw [F2.a 1 (by decide)]; exact g2, by rw [hU2]; rfl, fun f hf => ?_, fun f hf => ?_, fun f hf => ?_, by rw [F2.a 25 (by decide)]; exact hg⟩
      all_goals
        have hf' : f < V.n + P.V.n - sz k := hf
        rw [a2]
        rcases Nat.lt_or_ge f k with l | l
      · have e1 := Z.pd f (.inl (by omega)) (by omega)
        rw [rnU_le (by omega)] at e1
        rw [(i2 f (.inl l)).1, (c1 f l).1, e1]
      · rcases Nat.lt_or_ge f (k + P.V.n) with l' | l'
        · have e1 := Z.pdP (f - k) (by omega)
          have e2 := (i1 (f - k) (by omega)).1
          rw [show k + (f - k) = f by omega] at e1 e2
          rw [e2, e1]
        · have e1 := Z.pd (f + sz k - P.V.n) (.inr (by omega)) (by omega)
          have e2 := (c3 (f + sz k - P.V.n) (by omega) (by omega)).1
          rw [rnU_gt (by omega)] at e1
          rw [show f + sz k - P.V.n + P.V.n - sz k = f by omega] at e1 e2
          rw [(i2 f (.inr l')).1, e2, e1]
      · have e1 := Z.nu f (.inl (by omega)) (by omega)
        rw [rnU_le (by omega)] at e1
        rw [(i2 f (.inl l)).2.1, (c1 f l).2, e1]
      · rcases Nat.lt_or_ge f (k + P.V.n) with l' | l'
        · have e1 := Z.nuP (f - k) (by omega)
          have e2 := (i1 (f - k) (by omega)).2.1
          rw [show k + (f - k) = f by omega] at e1 e2
          rw [e2, e1]
        · have e1 := Z.nu (f + sz k - P.V.n) (.inr (by omega)) (by omega)
          have e2 := (c3 (f + sz k - P.V.n) (by omega) (by omega)).2.1
          rw [rnU_gt (by omega)] at e1
          rw [show f + sz k - P.V.n + P.V.n - sz k = f by omega] at e1 e2
          rw [(i2 f (.inr l')).2.1, e2, e1]
      · rw [(i2 f (.inl l)).2.2, c2 f (by omega), Z.pa1 f l]
      · rcases Nat.lt_or_ge f (k + P.V.n) with l' | l'
        · have e2 := (i1 (f - k) (by omega)).2.2
          rw [show k + (f - k) = f by omega] at e2
          rw [e2]
          by_cases h0 : f - k = 0
          · rw [if_pos h0]
            have e3 : f = k := by omega
            rw [e3, Z.paK]
          · rw [if_neg h0]
            obtain ⟨p, hp, _⟩ := KP.pr (f - k) (by omega) (by omega)
            have hp' : P.V.pa (f - k) = some p := hp
            have e1 := Z.paP (f - k) p (by omega) (by omega) hp'
            rw [show k + (f - k) = f by omega] at e1
            rw [e1, hp']
            show I (p + k) = I (k + p)
            rw [Nat.add_comm]
        · obtain ⟨p, hp, _⟩ := K.pr (f + sz k - P.V.n) (by omega) (by omega)
          have hp' : V.pa (f + sz k - P.V.n) = some p := hp
          have e1 := Z.pa2 (f + sz k - P.V.n) p (by omega) hp'
          have e2 := (c3 (f + sz k - P.V.n) (by omega) (by omega)).2.2 p hp'
          rw [rnU_gt (by omega)] at e1
          rw [show f + sz k - P.V.n + P.V.n - sz k = f by omega] at e1 e2
          rw [(i2 f (.inr l')).2.2, e2, e1]; rfl
    have hk' : k < (V.spl sz k P).n := by show k < V.n + P.V.n - sz k; omega
    have esm : (V.spl sz k P).sm A.g k = V.sm A.g k := by
      show A.g.sy ((V.spl sz k P).pd k) 0 = A.g.sy (V.pd k) 0
      have := Z.pdP 0 (by omega)
      rw [Nat.add_zero] at this
      rw [this, hsy]
    have hs8 := K.WF.smS W hk
    have hS := W.nS
    have hc8 := W.cnt8 hs8
    have hic := W.ic _ hs8
    have hi4 := W.ins _ hs8
    refine pt_symbolOf W K'.WF J hk' ?_
    rw [esm]
    (try simp (disch := omega) only [L_le, le_L, L_lt, lt_L, eq_L, L_eq, I_le, I_lt, I_eq, I_ni, add_L, L_add, I_add, mul_L, L_mul, I_mul, sub_L, L_sub, I_sub, div_L, rem_L])
    refine ⟨tix_I rfl (by show _ < 3816; omega) (by decide), ?_⟩
    rw [J.A.ins _ hs8]
    refine tlp_cnt (A.g.cnt (V.sm A.g k) - A.g.ins (V.sm A.g k)) (fun t q W' => q = I (A.g.ins (V.sm A.g k) + t) ∧ Tch [39] [] U2 W' ∧ (∀ j, j < 8 * k + A.g.ins (V.sm A.g k) ∨ 8 * k + A.g.ins (V.sm A.g k) + t ≤ j → W'.a 39 j = U2.a 39 j) ∧ (∀ j, 8 * k + A.g.ins (V.sm A.g k) ≤ j → j < 8 * k + A.g.ins (V.sm A.g k) + t → W'.a 39 j = 1)) ⟨rfl, Tch.refl _, fun j _ => rfl, fun j h1 h2 => absurd h1 (by omega)⟩ ?_
    intro t q W' K2 ht hh hK2
    obtain ⟨hq2, FW, j1, j2⟩ := hh
    have JW := J.keep FW (by decide) (by decide) (by decide) (by decide) (by decide) (by decide)
    refine pt_symbolOf W K'.WF JW hk' ?_
    rw [esm]
    refine pt_attributes W JW.A rfl hs8 ?_
    rw [hq2]
    by_cases et : t = A.g.cnt (V.sm A.g k) - A.g.ins (V.sm A.g k)
    · refine brT ((I_le (by omega) (by omega)).2 (by omega)) ?_
      have l39 : ∀ j, (j < 8 * k + A.g.ins (V.sm A.g k) ∨ 8 * (k + 1) ≤ j) → W'.a 39 j = U.a 39 j := fun j hj => by rw [j1 j (by omega), a2]
      have l40 : ∀ j, W'.a 40 j = U.a 40 j := fun j => by rw [FW.a 40 (by decide), a2]
      refine h W' ?_ JW (fun j hj => ?_) (fun j h1 h2 => j2 j h1 (by omega)) (fun j h1 h2 => ?_) (fun j hj => ?_) (fun j hj => ?_) (fun j hj => ⟨?_, ?_⟩)
      · exact F2.trans ⟨fun j hj => FW.a j (fun hh => hj (by rw [List.mem_singleton.1 hh]; decide)), fun f _ => FW.s f (by simp), FW.w, FW.l⟩
      · rw [l39 j (.inl hj)]; exact (i4 j (.inl (by omega))).1
      · rw [l39 j (.inr h1), l40]; exact i3 j h1 h2
      · rw [l39 j (.inr (by omega))]; exact (i4 j (.inr hj)).1
      · rw [l40]; exact (i4 j hj).2
      · by_cases r1 : 8 * k + A.g.ins (V.sm A.g k) ≤ j ∧ j < 8 * k + A.g.ins (V.sm A.g k) + t
        · exact .inr (j2 j r1.1 r1.2)
        · rw [j1 j (by omega), a2]
          by_cases r2 : 8 * (k + 1) ≤ j ∧ j < 8 * (k + P.V.n)
          · exact .inr (i3 j r2.1 r2.2).1
          · rw [(i4 j (by omega)).1]; exact b39 j hj
      · rw [l40]
        by_cases r2 : 8 * (k + 1) ≤ j ∧ j < 8 * (k + P.V.n)
        · exact .inr (i3 j r2.1 r2.2).2
        · rw [(i4 j (by omega)).2]; exact b40' j hj
    · refine brF (fun hh => by have := (I_le (by omega) (by omega)).1 hh; omega) ?_
      (try simp (disch := omega) only [L_le, le_L, L_lt, lt_L, eq_L, L_eq, I_le, I_lt, I_eq, I_ni, add_L, L_add, I_add, mul_L, L_mul, I_mul, sub_L, L_sub, I_sub, div_L, rem_L])
      refine ⟨tix_I rfl (by show _ < 320; omega) (by decide), ?_⟩
      intro W2 hW2
      have e39 : W2.a 39 = updN (W'.a 39) (8 * k + (A.g.ins (V.sm A.g k) + t)) 1 := by rw [hW2, sa_at]; rfl
      refine hK2 _ _ (by omega) ⟨by rw [Nat.add_assoc], by rw [hW2]; exact FW.sa (by decide) _ _, fun j hj => ?_, fun j h1 h2 => ?_⟩
      · rw [e39, updN_ne _ _ (by omega)]; exact j1 j (by omega)
      · rw [e39]
        by_cases ej : j = 8 * k + (A.g.ins (V.sm A.g k) + t)
        · rw [ej, updN_same]
        · rw [updN_ne _ _ ej]; exact j2 j h1 (by omega)
  have he' : e < P.V.n := by omega
  refine brF (by (first | omega | ((try simp (disch := omega) only [L_le, le_L, L_lt, lt_L, eq_L, L_eq, I_le, I_lt, I_eq, I_ni, add_L, L_add, I_add, mul_L, L_mul, I_mul, sub_L, L_sub, I_sub, div_L, rem_L]); done) | ((try simp (disch := omega) only [L_le, le_L, L_lt, lt_L, eq_L, L_eq, I_le, I_lt, I_eq, I_ni, add_L, L_add, I_add, mul_L, L_mul, I_mul, sub_L, L_sub, I_sub, div_L, rem_L]); omega))) ?_
  have eke : I k + I e = I (k + e) := I_add k e
  rw [eke]
  refine ⟨tix_I rfl (by show _ < 40; omega) (by decide), tix_I rfl (by show _ < 40; omega) (by decide), ?_⟩
  rw [I_ni (show e < 2147483648 by omega), I_ni (show k + e < 2147483648 by omega), F.a 22 (by decide), d1 e he']
  intro U1 h1
  refine ⟨tix_I rfl (by show _ < 40; omega) (by decide), tix_I rfl (by show _ < 40; omega) (by decide), ?_⟩
  rw [show U1.a 23 e = P.V.nu e by rw [h1, sa_off _ (by decide), F.a 23 (by decide)]; exact d2 e he']
  intro U2 h2
  refine ⟨fun v W' => v = (if e = 0 then oI (V.pa k) else oI ((P.V.pa e).map (· + k))) ∧ W' = U2, ?_, ?_⟩
  · by_cases e0 : e = 0
    · subst e0
      exact brT rfl ⟨by rw [if_pos rfl]; exact hab, rfl⟩
    · refine brF (fun hh => e0 ((I0 (by omega)).1 hh)) ⟨tix_I rfl (by show _ < 40; omega) (by decide), ?_, rfl⟩
      rw [if_neg e0, h2, sa_off _ (by decide), h1, sa_off _ (by decide), F.a 24 (by decide), d3 e he']
      obtain ⟨p, hp, _⟩ := KP.pr e (by omega) he'
      have hp' : P.V.pa e = some p := hp
      rw [hp']
      exact I_add p k
  intro v W' hh
  obtain ⟨hv, hW'⟩ := hh
  rw [hv, hW']
  refine ⟨tix_I rfl (by show _ < 40; omega) (by decide), ?_⟩
  intro U3 h3
  have F3 : Tch [19, 20, 21, 39, 40] [] T U3 := by rw [h3, h2, h1]; exact ((F.sa (by decide) _ _).sa (by decide) _ _).sa (by decide) _ _
  have a19 : U3.a 19 = updN (U.a 19) (k + e) (I (P.V.pd e)) := by rw [h3, sa_off _ (by decide), h2, sa_off _ (by decide), h1, sa_at]
  have a20 : U3.a 20 = updN (U.a 20) (k + e) (P.V.nu e) := by rw [h3, sa_off _ (by decide), h2, sa_at, h1, sa_off _ (by decide)]
  have a21 : U3.a 21 = updN (U.a 21) (k + e) (if e = 0 then oI (V.pa k) else oI ((P.V.pa e).map (· + k))) := by rw [h3, sa_at, h2, sa_off _ (by decide), h1, sa_off _ (by decide)]
  have ax : ∀ j, j ∈ [39, 40] → U3.a j = U.a j := fun j hj => by rw [h3, sa_off _ (by revert j; decide), h2, sa_off _ (by revert j; decide), h1, sa_off _ (by revert j; decide)]
  have e8 : 8 * I (k + e) = I (8 * (k + e)) := L_mul 8 (k + e)
  rw [e8]
  refine tlp_cnt 8 (fun a q W' => q = I a ∧ Tch [39, 40] [] U3 W' ∧ (0 < e → ∀ j, 8 * (k + e) ≤ j → j < 8 * (k + e) + a → W'.a 39 j = 1 ∧ W'.a 40 j = 1) ∧ (∀ j, (j < 8 * (k + e) ∨ 8 * (k + e) + a ≤ j) ∨ e = 0 → W'.a 39 j = U.a 39 j ∧ W'.a 40 j = U.a 40 j)) ⟨rfl, Tch.refl _, fun _ j h1 h2 => absurd h1 (by omega), fun j _ => ⟨by rw [ax 39 (by decide)], by rw [ax 40 (by decide)]⟩⟩ ?_
  intro a q W' K2 ha hh hK2
  obtain ⟨hq2, FW, j1, j2⟩ := hh
  rw [hq2]
  by_cases ea : a = 8 ∨ e = 0
  · refine brT ?_ ?_
    · rcases ea with ea | ea
      · exact .inl (by rw [ea]; decide)
      · exact .inr (by rw [ea]; decide)
    have FW' : Tch [19, 20, 21, 39, 40] [] T W' := F3.trans ⟨fun j hj => FW.a j (fun hh => hj (by rcases List.mem_cons.1 hh with e | e; · rw [e]; decide
                                                                                                  · rw [List.mem_singleton.1 e]; decide)), FW.s, FW.w, FW.l⟩
    rw [show I e + 1 = I (e + 1) from I_add e 1]
    refine hK _ _ he' ⟨rfl, FW', fun q hq => ?_, fun j hj => ?_, fun j l1 l2 => ?_, fun j hj => ?_⟩
    · rw [FW.a 19 (by decide), FW.a 20 (by decide), FW.a 21 (by decide), a19, a20, a21]
      by_cases eq : q = e
      · rw [eq, updN_same, updN_same, updN_same]; exact ⟨rfl, rfl, rfl⟩
      · rw [updN_ne _ _ (by omega), updN_ne _ _ (by omega), updN_ne _ _ (by omega)]; exact i1 q (by omega)
    · rw [FW.a 19 (by decide), FW.a 20 (by decide), FW.a 21 (by decide), a19, a20, a21, updN_ne _ _ (by omega), updN_ne _ _ (by omega), updN_ne _ _ (by omega)]; exact i2 j (by omega)
    · by_cases e0 : e = 0
      · exact absurd l1 (by omega)
      · by_cases lj : 8 * (k + e) ≤ j
        · exact j1 (by omega) j lj (by omega)
        · obtain ⟨r1, r2⟩ := j2 j (.inl (.inl (by omega)))
          obtain ⟨r3, r4⟩ := i3 j l1 (by omega)
          exact ⟨r1.trans r3, r2.trans r4⟩
    · obtain ⟨r1, r2⟩ := j2 j (by omega)
      obtain ⟨r3, r4⟩ := i4 j (by omega)
      exact ⟨r1.trans r3, r2.trans r4⟩
  · have ha' : a < 8 := by omega
    refine brF (fun hh => ?_) ?_
    · rcases hh with hh | hh
      · have h9 : 8 ≤ a := (L_le 8 (by decide) (by omega)).1 hh
        omega
      · have h9 : e ≤ 0 := (le_L 0 (by decide) (by omega)).1 hh
        omega
    (try simp (disch := omega) only [L_le, le_L, L_lt, lt_L, eq_L, L_eq, I_le, I_lt, I_eq, I_ni, add_L, L_add, I_add, mul_L, L_mul, I_mul, sub_L, L_sub, I_sub, div_L, rem_L])
    refine ⟨tix_I rfl (by show _ < 320; omega) (by decide), ?_⟩
    intro W1 w1
    refine ⟨tix_I rfl (by show _ < 320; omega) (by decide), ?_⟩
    intro W2 w2
    have c39 : W2.a 39 = updN (W'.a 39) (8 * (k + e) + a) 1 := by rw [w2, sa_at, w1, sa_off _ (by decide)]; rfl
    have c40 : W2.a 40 = updN (W'.a 40) (8 * (k + e) + a) 1 := by rw [w2, sa_off _ (by decide), w1, sa_at]; rfl
    refine hK2 _ _ ha' ⟨rfl, by rw [w2, w1]; exact (FW.sa (by decide) _ _).sa (by decide) _ _, fun h0 j l1 l2 => ?_, fun j hj => ?_⟩
    · rw [c39, c40]
      by_cases ej : j = 8 * (k + e) + a
      · rw [ej, updN_same, updN_same]; exact ⟨rfl, rfl⟩
      · rw [updN_ne _ _ ej, updN_ne _ _ ej]; exact j1 h0 j l1 (by omega)
    · rw [c39, c40, updN_ne _ _ (by omega), updN_ne _ _ (by omega)]; exact j2 j (by omega)
end
