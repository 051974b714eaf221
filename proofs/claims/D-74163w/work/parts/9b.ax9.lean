/-! plain: ax9 -/
set_option maxRecDepth 100000
section
variable {T U : TS} {X : AX} {x y z : Int32} {A : PG} {c : Nat} {G : Gv} {V : Tv} {gv : Nat → Int32} {S : Ist} {sz : Nat → Nat} {ind : Nat → Int32}

/-- what comes of a change. -/
noncomputable def AX.cg (X : AX) (A : PG) (V : Tv) (sz : Nat → Nat) (gv : Nat → Int32) (due nw : Nat → Prop) (old : Nat → Int32) : AX :=
  AX.mk X.m X.tp 0 X.fk X.fp X.gr (some (V, sz, gv)) (some (cnP (fun i => (istO A.g V gv).V i ∧ (istO A.g V gv).tch due nw old i) (istO A.g V gv).M, cnP (fun i => (istO A.g V gv).V i ∧ (istO A.g V gv).chg due nw old i) (istO A.g V gv).M))

theorem pt_fin {L M N : List Nat} {Y : AX} {due nw : Nat → Prop} {old : Nat → Int32} (R : TwRep T X) (F : Tcw L M N T U) (hA : ∀ j, j ∈ [1, 5] → j ∉ L) (hM : 209 ∉ M) (hN : 3 ∉ N) (hg : X.gr = some (A, ind)) (eg : Y.gr = X.gr) (K : trK A V sz) (hd0 : V.dp 0 = 0) (hm : Y.m ≤ 1000) (hb : ∀ k, Y.tp k < 256)
    (h5 : U.s 205 = I Y.m) (h6 : ∀ k, k < Y.m → U.a 0 k = I (Y.tp k)) (h7 : U.s 206 = Y.st) (h8 : U.s 207 = Y.fk) (h9 : U.s 208 = Y.fp) (J : TwI U A.g V gv)
    (hd : ∀ j, j < 320 → U.a 39 j = iP (due j)) (hn : ∀ j, j < 320 → U.a 40 j = iP (nw j)) (h41 : ∀ j, j < 320 → U.a 41 j = 0) (hold : ∀ j, V.is A.g j → U.a 32 j = old j) (hnd : ∀ y, V.is A.g y → nw y → due y) {v : TS → Int32} {r : Int32} (hv : ∀ Z, TwI Z A.g V gv → (∀ a, Z.a 20 a = U.a 20 a ∧ Z.a 25 a = U.a 25 a) → v Z = r) {Q : Int32 → TS → Prop} (h : ∀ Z, TwRep Z (Y.cg A V sz gv due nw old) → Q r Z) : wp_X1_counts U (fun Z => wp_X1_gives (v Z) Z Q) := by
  obtain ⟨W, RL, _⟩ := R.ok.g A ind hg
  have IS := istO_I gv W K.WF RL
  refine pt_counts (due := due) (nw := nw) (old := old) W K.PO RL IS K.WF J hd hn h41 (fun j hj => hold j ((IS.vv j).1 hj)) (fun y hy => hnd y ((IS.vv y).1 hy)) ?_
  intro Z O FZ q1 q2 e3 e4 e5
  rw [hv Z q1.J (fun a => ⟨by rw [FZ.a 20 (by decide)], by rw [FZ.a 25 (by decide)]⟩)]
  have FZ' : Tcw [26, 27, 28, 29, 30, 31, 34, 35, 36, 37, 38, 41, 42] [253, 254, 255, 272] [] U Z := ⟨FZ.a, FZ.s, fun j _ => by rw [FZ.l]⟩
  have all : Tcw ([26, 27, 28, 29, 30, 31, 34, 35, 36, 37, 38, 41, 42] ++ L) ([253, 254, 255, 272] ++ M) N T Z := (F.mono (fun j hj => List.mem_append_right _ hj) (fun j hj => List.mem_append_right _ hj) (fun j hj => hj)).trans (FZ'.mono (fun j hj => List.mem_append_left _ hj) (fun j hj => List.mem_append_left _ hj) (fun j hj => absurd hj (by simp)))
  refine pt_gives (X := AX.mk Y.m Y.tp Y.st Y.fk Y.fp Y.gr (some (V, sz, gv)) (some (cnP (fun i => (istO A.g V gv).V i ∧ (istO A.g V gv).tch due nw old i) (istO A.g V gv).M, cnP (fun i => (istO A.g V gv).V i ∧ (istO A.g V gv).chg due nw old i) (istO A.g V gv).M))) ?_ h
  refine R.mkT all ?_ ?_ hN hg eg rfl K hd0 hm hb ((FZ.s _ (by decide)).trans h5) (fun k hk => by rw [FZ.a 0 (by decide)]; exact h6 k hk) ((FZ.s _ (by decide)).trans h7) ((FZ.s _ (by decide)).trans h8) ((FZ.s _ (by decide)).trans h9) q1 q2 (fun e => absurd (show some _ = (none : Option (Nat × Nat)) from e) (by simp)) (fun a b e => ?_)
  · intro j hj hh
    rcases List.mem_append.1 hh with h' | h'
    · clear hh; revert j; decide
    · exact hA j hj h'
  · intro hh
    rcases List.mem_append.1 hh with h' | h'
    · exact absurd h' (by decide)
    · exact hM h'
  · have e' := Prod.mk.inj (Option.some.inj (show some _ = some (a, b) from e))
    rw [← e'.1, ← e'.2]
    exact ⟨e3, e4, e5⟩

def exOwn (e : Ex) : Prop := ∃ i, i < e.length ∧ (e.getD i (0, 0)).1 = 1
/-- an instance is told by a node's rule that asks the node's own number. -/
def Tv.ow (V : Tv) (G : Gv) (k i : Nat) : Prop := V.rA G i = some k ∧ ∃ e, G.rl (V.pd k) (V.oO G i) = some e ∧ exOwn e
theorem pt_asksOwn (W : G.WF) (X : V.WF G) (J : TwI T G V gv) (B : TwB T G V) {i q : Nat} (hi : V.is G i) (hr : V.rA G i = some q) {Q : Int32 → TS → Prop} (h : Q (iP (V.ow G q i)) T) : wp_X1_asksOwn (I i) T Q := by
  have h40 := X.n40
  have hlt := X.isLt hi
  have hq := X.rAlt hi.1 hr
  have hP := W.nP
  have hp := X.pd q hq
  have ho := (X.oOlt W hi hr).1.1
  unfold wp_X1_asksOwn
  refine ⟨tix_I rfl (by show _ < 320; omega) (by decide), ?_⟩
  rw [I_ni (show i < 2147483648 by omega), B.ba i hi, hr, show oI (some q) = I q from rfl]
  refine ⟨tix_I rfl (by show _ < 40; omega) (by decide), tix_I rfl (by show _ < 320; omega) (by decide), ?_⟩
  rw [I_ni (show q < 2147483648 by omega), J.pd q hq, B.oc i q hi hr]
  (try simp (disch := omega) only [L_le, le_L, L_lt, lt_L, eq_L, L_eq, I_le, I_lt, I_eq, I_ni, add_L, L_add, I_add, mul_L, L_mul, I_mul, sub_L, L_sub, I_sub, div_L, rem_L])
  refine ⟨tix_I rfl (by show _ < 3816; omega) (by decide), ?_⟩
  have a80 : 80 + (32 * V.pd q + V.oO G i) = 80 + 32 * V.pd q + V.oO G i := by omega
  have a464 : 464 + (32 * V.pd q + V.oO G i) = 464 + 32 * V.pd q + V.oO G i := by omega
  rw [a80, a464]
  cases he : G.rl (V.pd q) (V.oO G i) with
  | none =>
    obtain ⟨c1, c2, _⟩ := J.C.cn _ _ hp ho he
    rw [c1]
    refine tlp_cnt 0 (fun k s U => s = 0 ∧ U = T) ⟨rfl, rfl⟩ ?_
    intro k s U K hk hh hK
    obtain ⟨hs, hU⟩ := hh
    rw [hs, hU]
    refine ⟨tix_I rfl (by show _ < 3816; omega) (by decide), ?_⟩
    rw [c2]
    rw [iP_neg (fun hh => by obtain ⟨_, e, h1, _⟩ := hh; rw [he] at h1; exact absurd h1 (by simp))] at h
    exact brT (by decide) h
  | some e =>
    obtain ⟨f, c1, c2, _, c4, c5⟩ := J.C.cs _ _ e hp ho he
    rw [c1]
    refine tlp_cnt e.length (fun k s U => s = I (f + k) ∧ U = T ∧ ∀ j, j < k → (e.getD j (0, 0)).1 ≠ 1) ⟨rfl, rfl, fun j hj => absurd hj (by omega)⟩ ?_
    intro k s U K hk hh hK
    obtain ⟨hs, hU, hno⟩ := hh
    rw [hs, hU]
    refine ⟨tix_I rfl (by show _ < 3816; omega) (by decide), ?_⟩
    rw [c2]
    by_cases ek : k = e.length
    · subst ek
      rw [iP_neg (fun hh => by
        obtain ⟨_, e', h1, j, hj, h2⟩ := hh
        rw [he] at h1
        have e9 := Option.some.inj h1
        subst e9
        exact hno j hj h2)] at h
      exact brT (by (first | omega | ((try simp (disch := omega) only [L_le, le_L, L_lt, lt_L, eq_L, L_eq, I_le, I_lt, I_eq, I_ni, add_L, L_add, I_add, mul_L, L_mul, I_mul, sub_L, L_sub, I_sub, div_L, rem_L]); done) | ((try simp (disch := omega) only [L_le, le_L, L_lt, lt_L, eq_L, L_eq, I_le, I_lt, I_eq, I_ni, add_L, L_add, I_add, mul_L, L_mul, I_mul, sub_L, L_sub, I_sub, div_L, rem_L]); omega))) h
    have hk' : k < e.length := by omega
    obtain ⟨d1, d2, d3, d4⟩ := c5 k hk'
    refine brF (by (first | omega | ((try simp (disch := omega) only [L_le, le_L, L_lt, lt_L, eq_L, L_eq, I_le, I_lt, I_eq, I_ni, add_L, L_add, I_add, mul_L, L_mul, I_mul, sub_L, L_sub, I_sub, div_L, rem_L]); done) | ((try simp (disch := omega) only [L_le, le_L, L_lt, lt_L, eq_L, L_eq, I_le, I_lt, I_eq, I_ni, add_L, L_add, I_add, mul_L, L_mul, I_mul, sub_L, L_sub, I_sub, div_L, rem_L]); omega))) ?_
    (try simp (disch := omega) only [L_le, le_L, L_lt, lt_L, eq_L, L_eq, I_le, I_lt, I_eq, I_ni, add_L, L_add, I_add, mul_L, L_mul, I_mul, sub_L, L_sub, I_sub, div_L, rem_L])
    refine ⟨tix_I rfl (by show _ < 3816; omega) (by decide), ?_⟩
    rw [d1]
    by_cases h1 : (e.getD k (0, 0)).1 = 1
    · rw [iP_pos ⟨hr, e, he, k, hk', h1⟩] at h
      exact brT (by rw [h1]; rfl) h
    · refine brF (fun hh => h1 ((eq_L 1 (by decide) (by omega)).1 hh)) ?_
      refine hK _ _ hk' ⟨by rw [Nat.add_assoc], rfl, fun j hj => ?_⟩
      by_cases ej : j = k
      · rw [ej]; exact h1
      · exact hno j (by omega)

def Tv.wnu (V : Tv) (k : Nat) (v : Int32) : Tv := Tv.mkT V.n V.pd (updN V.nu k v) V.pa V.pl V.kd V.dp
theorem trK.wnu (K : trK A V sz) (k : Nat) {u : Nat} (hu : u < 10000) : trK A (V.wnu k (I u)) sz := by
  refine ⟨K.n1, K.n40, K.r, K.s0, fun j hj => ?_, K.pr⟩
  have N := K.nd j hj
  refine ⟨N.pd, N.s1, N.s2, N.d, ?_, N.c, N.c1, N.c2, N.c3⟩
  show ∃ x, x < 10000 ∧ updN V.nu k (I u) j = I x
  by_cases e : j = k
  · rw [e, updN_same]; exact ⟨u, hu, rfl⟩
  · rw [updN_ne _ _ e]; exact N.u

noncomputable def xPut (X : AX) (x y : Int32) : AX :=
  cif (inR y 10000) (match X.tr with
    | none => X.ws 3
    | some r => match X.gr with
      | none => X
      | some q => cif (inR x r.1.n) (X.cg q.1 (r.1.wnu (ni x) y) r.2.1 r.2.2 (fun i => r.1.nu (ni x) ≠ y ∧ r.1.is q.1.g i ∧ r.1.ow q.1.g (ni x) i) (fun _ => False) X.S.val) (X.ws 4)) (X.ws 1)
noncomputable def qPut (X : AX) (x y : Int32) : Int32 :=
  cif (inR y 10000) (match X.tr with
    | none => -1
    | some r => cif (inR x r.1.n) (r.1.nu (ni x)) (-1)) (-1)

theorem pt_put (R : TwRep T X) {Q : Int32 → TS → Prop} (h : ∀ U, TwRep U (xPut X x y) → Q (qPut X x y) U) : wp_X1_put x y T Q := by
  unfold wp_X1_put
  refine pt_isFromR (m := 10000) (by decide) (by decide) ?_
  unfold xPut qPut at h
  by_cases hr : inR y 10000
  rotate_left
  · rw [iP_neg hr]
    rw [cif_neg hr, cif_neg hr] at h
    exact brT rfl (pt_refuse R h)
  rw [iP_pos hr]
  rw [cif_pos hr, cif_pos hr] at h
  refine brF (by decide) ?_
  refine pt_hasTree R ?_
  cases ht : X.tr with
  | none =>
    rw [ht] at h
    rw [iP_neg (fun hh => hh rfl)]
    exact brT rfl (pt_refuse R h)
  | some r =>
    obtain ⟨V, sz, gv⟩ := r
    obtain ⟨A, ind, hg, K, IS, q1, ⟨O, q2⟩, q3, q4, q5⟩ := R.tt1 ht
    obtain ⟨_, _, _, _, hd0⟩ := R.ok.t V sz gv ht
    obtain ⟨W, RL, hI, s, g, h5⟩ := R.gg hg
    rw [iP_pos (by simp)]
    rw [hg, ht] at h
    dsimp only at h
    refine brF (by decide) ?_
    refine pt_isNodeR K.WF q1.J ?_
    by_cases hx : inR x V.n
    rotate_left
    · rw [iP_neg hx]
      rw [cif_neg hx, cif_neg hx] at h
      exact brT rfl (pt_refuse R h)
    rw [iP_pos hx]
    rw [cif_pos hx, cif_pos hx] at h
    refine brF (by decide) ?_
    obtain ⟨k, hk, e⟩ := hx
    subst e
    obtain ⟨u, hu, e⟩ := hr
    subst e
    rw [I_ni (show k < 2147483648 by omega)] at h ⊢
    refine ⟨tix_I rfl (by show _ < 40; omega) (by decide), ?_⟩
    refine pt_beginsChange ?_
    intro U F hz
    rw [q1.J.nu k hk]
    have hvis : ∀ j, V.is A.g j → j < 320 := fun j hj => by have := K.WF.isLt hj; omega
    -- when all due ones are told
    have fin : ∀ Z, Tcw [32, 33, 39, 40, 41] [] [] T Z → (∀ j, j < 320 → Z.a 39 j = iP (V.nu k ≠ I u ∧ V.is A.g j ∧ V.ow A.g k j)) → (∀ j, j < 320 → Z.a 40 j = 0 ∧ Z.a 41 j = 0 ∧ Z.a 32 j = T.a 28 j) → ∀ Z', Z' = Z.sa 20 k (I u) → wp_X1_counts Z' (fun Z => wp_X1_gives (V.nu k) Z Q) := by
      intro Z FZ hdu hz2 Z' hZ'
      have F' : Tcw [20, 32, 33, 39, 40, 41] [] [] T Z' := by rw [hZ']; exact (FZ.mono (by decide) (by decide) (by decide)).sa (by decide) _ _
      have FZ2 : Tcw [20] [] [] Z Z' := by rw [hZ']; exact (Tcw.refl Z).sa (by decide) _ _
      have e20 : Z'.a 20 = updN (T.a 20) k (I u) := by rw [hZ', sa_at, FZ.a 20 (by decide)]
      refine pt_fin (X := X) (Y := X) (v := fun _ => V.nu k) (V := V.wnu k (I u)) (sz := sz) (gv := gv) R F' (by decide) (by decide) (by decide) hg rfl (K.wnu k hu) hd0 R.ok.m R.ok.b ((F'.s _ (by decide)).trans R.n) (fun k hk => by rw [F'.a 0 (by decide)]; exact R.tt k hk) ((F'.s _ (by decide)).trans R.st) ((F'.s _ (by decide)).trans R.fk) ((F'.s _ (by decide)).trans R.fp) ?_ ?_ ?_ ?_ ?_ ?_ (fun _ _ _ => rfl) h
      · refine ⟨by rw [F'.a 1 (by decide)]; exact q1.J.A, by rw [F'.a 1 (by decide)]; exact q1.J.C, (F'.s _ (by decide)).trans q1.J.n, by rw [F'.a 19 (by decide)]; exact q1.J.pd, fun j hj => ?_, by rw [F'.a 21 (by decide)]; exact q1.J.pa, by rw [F'.a 25 (by decide)]; exact q1.J.gi⟩
        rw [e20]
        show _ = updN V.nu k (I u) j
        by_cases e : j = k
        · rw [e, updN_same, updN_same]
        · rw [updN_ne _ _ e, updN_ne _ _ e]; exact q1.J.nu j hj
      · intro j hj; rw [FZ2.a 39 (by decide)]; exact hdu j hj
      · intro j hj; rw [FZ2.a 40 (by decide), (hz2 j hj).1, iP_neg (fun hh => hh)]
      · intro j hj; rw [FZ2.a 41 (by decide)]; exact (hz2 j hj).2.1
      · intro j hj
        have hj' : V.is A.g j := hj
        rw [FZ2.a 32 (by decide), (hz2 j (hvis j hj')).2.2]
        exact q2.v j ((IS.vv j).2 hj')
      · intro y _ hh; exact hh.elim
    have FU : Tcw [32, 33, 39, 40, 41] [] [] T U := ⟨F.a, F.s, fun j _ => by rw [F.l]⟩
    by_cases hw : V.nu k = I u
    · refine tlp_cnt 0 (fun _ s Z => s = 0 ∧ Z = U) ⟨rfl, rfl⟩ ?_
      intro i s Z KK _ hh _
      obtain ⟨hs, hZ⟩ := hh
      rw [hs, hZ]
      refine brT (.inr hw) ⟨tix_I rfl (by show _ < 40; omega) (by decide), fun Z' hZ' => fin U FU (fun j hj => ?_) (fun j hj => ⟨(hz j hj).2.1, (hz j hj).2.2.1, (hz j hj).2.2.2⟩) Z' hZ'⟩
      rw [(hz j hj).1, iP_neg (fun hh => hh.1 hw)]
    refine tlp_cnt (8 * V.n) (fun i s Z => s = I i ∧ Tch [39] [] U Z ∧ (∀ j, j < i → Z.a 39 j = iP (V.nu k ≠ I u ∧ V.is A.g j ∧ V.ow A.g k j)) ∧ ∀ j, i ≤ j → j < 320 → Z.a 39 j = 0) ⟨rfl, Tch.refl U, fun j hj => absurd hj (by omega), fun j _ hj => (hz j hj).1⟩ ?_
    intro i s Z KK hi hh hK
    obtain ⟨es, FZ, i1, i2⟩ := hh
    have FTZ : Tch [32, 33, 39, 40, 41] [] T Z := F.trans ⟨fun j hj => FZ.a j (fun hh => hj (by rw [List.mem_singleton.1 hh]; decide)), FZ.s, FZ.w, FZ.l⟩
    have xZ := q1.keep FTZ (by decide) (by decide)
    rw [es, xZ.J.n]
    by_cases ei : i = 8 * V.n
    · subst ei
      refine brT (.inl (by (first | omega | ((try simp (disch := omega) only [L_le, le_L, L_lt, lt_L, eq_L, L_eq, I_le, I_lt, I_eq, I_ni, add_L, L_add, I_add, mul_L, L_mul, I_mul, sub_L, L_sub, I_sub, div_L, rem_L]); done) | ((try simp (disch := omega) only [L_le, le_L, L_lt, lt_L, eq_L, L_eq, I_le, I_lt, I_eq, I_ni, add_L, L_add, I_add, mul_L, L_mul, I_mul, sub_L, L_sub, I_sub, div_L, rem_L]); omega)))) ⟨tix_I rfl (by show _ < 40; omega) (by decide), fun Z' hZ' => fin Z ⟨FTZ.a, FTZ.s, fun j _ => by rw [FTZ.l]⟩ (fun j hj => ?_) (fun j hj => ⟨by rw [FZ.a 40 (by decide)]; exact (hz j hj).2.1, by rw [FZ.a 41 (by decide)]; exact (hz j hj).2.2.1, by rw [FZ.a 32 (by decide)]; exact (hz j hj).2.2.2⟩) Z' hZ'⟩
      by_cases hl : j < 8 * V.n
      · exact i1 j hl
      · rw [i2 j (by omega) hj, iP_neg (fun hh => hl (K.WF.isLt hh.2.1))]
    have hi' : i < 8 * V.n := by omega
    refine brF (fun hh => ?_) ?_
    · rcases hh with hh | hh
      · have h9 : 8 * V.n ≤ i := by
          have h8 : I (8 * V.n) ≤ I i := by rw [← I_mul]; exact hh
          exact (I_le (by omega) (by omega)).1 h8
        omega
      · exact hw hh
    refine ⟨tix_I rfl (by show _ < 320; omega) (by decide), ?_⟩
    rw [I_ni (show i < 2147483648 by omega), xZ.B.th i (by omega)]
    have put : ∀ (m : Int32) (Z1 : TS), m = iP (V.nu k ≠ I u ∧ V.is A.g i ∧ V.ow A.g k i) → Z1 = Z.sa 39 i (vp_nar .boolean m) → KK (I i + 1) Z1 := by
      intro m Z1 hm hZ1
      have em : vp_nar .boolean m = m := by
        rw [hm]
        by_cases hq : V.nu k ≠ I u ∧ V.is A.g i ∧ V.ow A.g k i
        · rw [iP_pos hq]; rfl
        · rw [iP_neg hq]; rfl
      rw [em] at hZ1
      (try simp (disch := omega) only [L_le, le_L, L_lt, lt_L, eq_L, L_eq, I_le, I_lt, I_eq, I_ni, add_L, L_add, I_add, mul_L, L_mul, I_mul, sub_L, L_sub, I_sub, div_L, rem_L])
      refine hK _ _ hi' ⟨rfl, by rw [hZ1]; exact FZ.sa (by decide) _ _, fun j hj => ?_, fun j h1 h2 => ?_⟩
      · rw [hZ1, sa_at]
        by_cases ej : j = i
        · rw [ej, updN_same, hm]
        · rw [updN_ne _ _ ej]; exact i1 j (by omega)
      · rw [hZ1, sa_at, updN_ne _ _ (by omega)]; exact i2 j (by omega) h2
    by_cases his : V.is A.g i
    rotate_left
    · rw [iP_neg his]
      refine brT rfl ⟨tix_I rfl (by show _ < 320; omega) (by decide), fun Z1 hZ1 => put 0 Z1 (by rw [iP_neg (fun hh => his hh.2.1)]) hZ1⟩
    rw [iP_pos his]
    refine brF (by decide) ⟨tix_I rfl (by show _ < 320; omega) (by decide), ?_⟩
    rw [xZ.B.ba i his]
    by_cases hrA : V.rA A.g i = some k
    rotate_left
    · refine brF (fun hh => hrA ?_) ⟨tix_I rfl (by show _ < 320; omega) (by decide), fun Z1 hZ1 => put 0 Z1 (by rw [iP_neg (fun hh => hrA hh.2.2.1)]) hZ1⟩
      cases hq : V.rA A.g i with
      | none => rw [hq] at hh; exact absurd hh.symm (I_neg1_ne (by omega))
      | some q =>
        rw [hq] at hh
        have := K.WF.rAlt his.1 hq
        rw [(I_eq (by omega) (by omega)).1 hh]
    rw [hrA]
    refine brT rfl ?_
    refine pt_asksOwn W K.WF xZ.J xZ.B his hrA ?_
    intro m hm
    refine ⟨tix_I rfl (by show _ < 320; omega) (by decide), fun Z1 hZ1 => put m Z1 ?_ hZ1⟩
    by_cases how : V.ow A.g k i
    · rw [iP_pos how, if_neg (by decide)] at hm
      rw [hm, iP_pos ⟨hw, his, how⟩]
    · rw [iP_neg how, if_pos rfl] at hm
      rw [hm, iP_neg (fun hh => how hh.2.2)]

noncomputable def xGive (X : AX) (x y : Int32) : AX :=
  match X.tr with
    | none => X.ws 3
    | some r => match X.gr with
      | none => X
      | some q => cif (inR x (q.1.g.ins (r.1.sm q.1.g 0))) (X.cg q.1 r.1 r.2.1 (updN r.2.2 (ni x) y) (fun i => r.2.2 (ni x) ≠ y ∧ i = ni x) (fun _ => False) X.S.val) (X.ws 4)
noncomputable def qGive (X : AX) (x y : Int32) : Int32 :=
  match X.tr with
    | none => -1
    | some r => match X.gr with
      | none => 0
      | some q => cif (inR x (q.1.g.ins (r.1.sm q.1.g 0))) (r.2.2 (ni x)) (-1)
theorem pt_give (R : TwRep T X) {Q : Int32 → TS → Prop} (h : ∀ U, TwRep U (xGive X x y) → Q (qGive X x y) U) : wp_X1_give x y T Q := by
  unfold wp_X1_give
  unfold xGive qGive at h
  refine pt_hasTree R ?_
  cases ht : X.tr with
  | none =>
    rw [ht] at h
    rw [iP_neg (fun hh => hh rfl)]
    exact brT rfl (pt_refuse R h)
  | some r =>
    obtain ⟨V, sz, gv⟩ := r
    obtain ⟨A, ind, hg, K, IS, q1, ⟨O, q2⟩, q3, q4, q5⟩ := R.tt1 ht
    obtain ⟨_, _, _, _, hd0⟩ := R.ok.t V sz gv ht
    obtain ⟨W, RL, hI, s, g, h5⟩ := R.gg hg
    rw [iP_pos (by simp)]
    rw [hg, ht] at h
    dsimp only at h
    refine brF (by decide) ?_
    have h0 : 0 < V.n := by omega
    have hs0 := K.WF.smS W h0
    have hS := W.nS
    have hi4 := W.ins _ hs0
    refine pt_symbolOf (k := 0) W K.WF q1.J h0 ?_
    (try simp (disch := omega) only [L_le, le_L, L_lt, lt_L, eq_L, L_eq, I_le, I_lt, I_eq, I_ni, add_L, L_add, I_add, mul_L, L_mul, I_mul, sub_L, L_sub, I_sub, div_L, rem_L])
    refine ⟨tix_I rfl (by show _ < 3816; omega) (by decide), ?_⟩
    rw [g.ins _ hs0]
    refine pt_isFromR (m := A.g.ins (V.sm A.g 0)) (by omega) rfl ?_
    by_cases hx : inR x (A.g.ins (V.sm A.g 0))
    rotate_left
    · rw [iP_neg hx]
      rw [cif_neg hx, cif_neg hx] at h
      exact brT rfl (pt_refuse R h)
    rw [iP_pos hx]
    rw [cif_pos hx, cif_pos hx] at h
    refine brF (by decide) ?_
    obtain ⟨a, ha, e⟩ := hx
    subst e
    rw [I_ni (show a < 2147483648 by omega)] at h ⊢
    refine ⟨tix_I rfl (by show _ < 4; omega) (by decide), ?_⟩
    rw [q1.J.gi a (by omega)]
    refine pt_beginsChange ?_
    intro U F hz m hm
    refine ⟨tix_I rfl (by show _ < 320; omega) (by decide), ?_⟩
    have em : vp_nar .boolean m = iP (gv a ≠ y) := by
      by_cases hq : gv a = y
      · rw [if_pos hq] at hm
        rw [hm, iP_neg (fun hh => hh hq)]; rfl
      · rw [if_neg hq] at hm
        rw [hm, iP_pos hq]; rfl
    rw [em]
    intro U1 hU1
    refine ⟨tix_I rfl (by show _ < 4; omega) (by decide), ?_⟩
    intro U2 hU2
    have FU : Tcw [25, 32, 33, 39, 40, 41] [] [] T U := ⟨fun j hj => F.a j (fun hh => hj (List.mem_cons_of_mem _ hh)), F.s, fun j _ => by rw [F.l]⟩
    have F2 : Tcw [25, 32, 33, 39, 40, 41] [] [] T U2 := by rw [hU2, hU1]; exact (FU.sa (by decide) _ _).sa (by decide) _ _
    have e39 : U2.a 39 = updN (U.a 39) a (iP (gv a ≠ y)) := by rw [hU2, sa_off _ (by decide), hU1, sa_at]
    have e25 : U2.a 25 = updN (T.a 25) a y := by rw [hU2, sa_at, hU1, sa_off _ (by decide), F.a 25 (by decide)]
    have ex : ∀ j, j ∈ [32, 40, 41] → U2.a j = U.a j := fun j hj => by rw [hU2, sa_off _ (by revert j; decide), hU1, sa_off _ (by revert j; decide)]
    have hvis : ∀ j, V.is A.g j → j < 320 := fun j hj => by have := K.WF.isLt hj; omega
    refine pt_fin (X := X) (Y := X) (v := fun _ => gv a) (V := V) (sz := sz) (gv := updN gv a y) R F2 (by decide) (by decide) (by decide) hg rfl K hd0 R.ok.m R.ok.b ((F2.s _ (by decide)).trans R.n) (fun k hk => by rw [F2.a 0 (by decide)]; exact R.tt k hk) ((F2.s _ (by decide)).trans R.st) ((F2.s _ (by decide)).trans R.fk) ((F2.s _ (by decide)).trans R.fp) ?_ ?_ ?_ ?_ ?_ ?_ (fun _ _ _ => rfl) h
    · refine ⟨by rw [F2.a 1 (by decide)]; exact q1.J.A, by rw [F2.a 1 (by decide)]; exact q1.J.C, (F2.s _ (by decide)).trans q1.J.n, by rw [F2.a 19 (by decide)]; exact q1.J.pd, by rw [F2.a 20 (by decide)]; exact q1.J.nu, by rw [F2.a 21 (by decide)]; exact q1.J.pa, fun j hj => ?_⟩
      rw [e25]
      by_cases e : j = a
      · rw [e, updN_same, updN_same]
      · rw [updN_ne _ _ e, updN_ne _ _ e]; exact q1.J.gi j hj
    · intro j hj
      rw [e39]
      by_cases e : j = a
      · rw [e, updN_same]
        exact iP_congr ⟨fun hh => ⟨hh, rfl⟩, fun hh => hh.1⟩
      · rw [updN_ne _ _ e, (hz j hj).1, iP_neg (fun hh => e hh.2)]
    · intro j hj; rw [ex 40 (by decide), (hz j hj).2.1, iP_neg (fun hh => hh)]
    · intro j hj; rw [ex 41 (by decide)]; exact (hz j hj).2.2.1
    · intro j hj
      rw [ex 32 (by decide), (hz j (hvis j hj)).2.2.2]
      exact q2.v j ((IS.vv j).2 hj)
    · intro y _ hh; exact hh.elim
end
