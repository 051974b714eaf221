/-! plain: gr2 -/
set_option maxRecDepth 100000
section
variable {T U : TS} {S : Ist} {due nw due' nw' : Nat → Prop} {old old' : Nat → Int32}

theorem Ist.chgF_congr (hd : ∀ j, S.V j → (due j ↔ due' j)) (hn : ∀ j, S.V j → (nw j ↔ nw' j)) (ho : ∀ j, S.V j → ¬ nw j → old j = old' j) : ∀ (f i : Nat), S.V i → (S.chgF due nw old f i ↔ S.chgF due' nw' old' f i)
  | 0, _, _ => Iff.rfl
  | f + 1, i, hi => by
    have key : ∀ j, j ∈ cls S.E S.M i → ((due j ∨ ∃ y, S.E j y ∧ y ∉ cls S.E S.M i ∧ S.chgF due nw old f y) ↔ (due' j ∨ ∃ y, S.E j y ∧ y ∉ cls S.E S.M i ∧ S.chgF due' nw' old' f y)) := by
      intro j hj
      have hjV := S.cls_V hi hj
      constructor
      · rintro (h | ⟨y, h1, h2, h3⟩)
        · exact .inl ((hd j hjV).1 h)
        · exact .inr ⟨y, h1, h2, (Ist.chgF_congr hd hn ho f y (S.hE _ _ h1).2).1 h3⟩
      · rintro (h | ⟨y, h1, h2, h3⟩)
        · exact .inl ((hd j hjV).2 h)
        · exact .inr ⟨y, h1, h2, (Ist.chgF_congr hd hn ho f y (S.hE _ _ h1).2).2 h3⟩
    have k2 : (nw i ∨ S.val i ≠ old i) ↔ (nw' i ∨ S.val i ≠ old' i) := by
      by_cases h : nw i
      · exact ⟨fun _ => .inl ((hn i hi).1 h), fun _ => .inl h⟩
      · have h' : ¬ nw' i := fun hh => h ((hn i hi).2 hh)
        rw [ho i hi h]
        exact ⟨fun hh => hh.elim (fun a => absurd a h) .inr, fun hh => hh.elim (fun a => absurd a h') .inr⟩
    unfold Ist.chgF
    constructor
    · rintro ⟨⟨j, h1, h2⟩, h3⟩
      exact ⟨⟨j, h1, (key j h1).1 h2⟩, k2.1 h3⟩
    · rintro ⟨⟨j, h1, h2⟩, h3⟩
      exact ⟨⟨j, h1, (key j h1).2 h2⟩, k2.2 h3⟩
theorem Ist.chg_congr (hd : ∀ j, S.V j → (due j ↔ due' j)) (hn : ∀ j, S.V j → (nw j ↔ nw' j)) (ho : ∀ j, S.V j → ¬ nw j → old j = old' j) {i : Nat} (hi : S.V i) : S.chg due nw old i ↔ S.chg due' nw' old' i := Ist.chgF_congr hd hn ho _ i hi
theorem Ist.tch_congr (hd : ∀ j, S.V j → (due j ↔ due' j)) (hn : ∀ j, S.V j → (nw j ↔ nw' j)) (ho : ∀ j, S.V j → ¬ nw j → old j = old' j) {i : Nat} (hi : S.V i) : S.tch due nw old i ↔ S.tch due' nw' old' i := by
  unfold Ist.tch
  constructor
  · rintro ⟨j, hj, h | ⟨y, h1, h2, h3⟩⟩
    · exact ⟨j, hj, .inl ((hd j (S.cls_V hi hj)).1 h)⟩
    · exact ⟨j, hj, .inr ⟨y, h1, h2, (Ist.chg_congr hd hn ho (S.hE _ _ h1).2).1 h3⟩⟩
  · rintro ⟨j, hj, h | ⟨y, h1, h2, h3⟩⟩
    · exact ⟨j, hj, .inl ((hd j (S.cls_V hi hj)).2 h)⟩
    · exact ⟨j, hj, .inr ⟨y, h1, h2, (Ist.chg_congr hd hn ho (S.hE _ _ h1).2).2 h3⟩⟩
theorem AX.cg_congr {X : AX} {A : PG} {V : Tv} {sz : Nat → Nat} {gv : Nat → Int32} (IS : IsI (istO A.g V gv) A.g V gv) (hd : ∀ j, V.is A.g j → (due j ↔ due' j)) (hn : ∀ j, V.is A.g j → (nw j ↔ nw' j)) (ho : ∀ j, V.is A.g j → ¬ nw j → old j = old' j) : X.cg A V sz gv due nw old = X.cg A V sz gv due' nw' old' := by
  have hd' : ∀ j, (istO A.g V gv).V j → (due j ↔ due' j) := fun j hj => hd j ((IS.vv j).1 hj)
  have hn' : ∀ j, (istO A.g V gv).V j → (nw j ↔ nw' j) := fun j hj => hn j ((IS.vv j).1 hj)
  have ho' : ∀ j, (istO A.g V gv).V j → ¬ nw j → old j = old' j := fun j hj => ho j ((IS.vv j).1 hj)
  unfold AX.cg
  rw [cnP_congr (P := fun i => (istO A.g V gv).V i ∧ (istO A.g V gv).tch due nw old i) (Q := fun i => (istO A.g V gv).V i ∧ (istO A.g V gv).tch due' nw' old' i) (fun i _ => ⟨fun h => ⟨h.1, (Ist.tch_congr hd' hn' ho' h.1).1 h.2⟩, fun h => ⟨h.1, (Ist.tch_congr hd' hn' ho' h.1).2 h.2⟩⟩),
    cnP_congr (P := fun i => (istO A.g V gv).V i ∧ (istO A.g V gv).chg due nw old i) (Q := fun i => (istO A.g V gv).V i ∧ (istO A.g V gv).chg due' nw' old' i) (fun i _ => ⟨fun h => ⟨h.1, (Ist.chg_congr hd' hn' ho' h.1).1 h.2⟩, fun h => ⟨h.1, (Ist.chg_congr hd' hn' ho' h.1).2 h.2⟩⟩)]

/-- in a knot with one of some instances. -/
def Ist.tie (S : Ist) (lo hi i : Nat) : Prop := S.V i ∧ Trc S.E i i ∧ ∃ j, lo ≤ j ∧ j < hi ∧ j ∈ cls S.E S.M i
theorem pt_wasTied {G : Gv} {V : Tv} {gv : Nat → Int32} (IS : IsI S G V gv) (W : V.WF G) (q1 : TwX T G V gv S) {i k s : Nat} (hi : V.is G i) (hks : k + s ≤ V.n) {Q : Int32 → TS → Prop} (h : Q (iP (S.tie (8 * k) (8 * (k + s)) i)) T) : wp_X1_wasTied (I i) (I k) (I s) T Q := by
  have h40 := W.n40
  have hlt := W.isLt hi
  have hV := (IS.vv i).2 hi
  have hMM := IS.mm
  unfold wp_X1_wasTied
  refine ⟨tix_I rfl (by show _ < 320; omega) (by decide), ?_⟩
  rw [I_ni (show i < 2147483648 by omega)]
  by_cases htr : Trc S.E i i
  rotate_left
  · rw [(q1.K i (by omega)).2 (fun hh => htr hh.2)]
    rw [iP_neg (fun hh => htr hh.2.1)] at h
    exact brT rfl h
  have e29 := (q1.K i (by omega)).1 ⟨hV, htr⟩
  have hhd := S.hV _ (S.cls_V hV (S.hd_mem hV))
  rw [e29]
  refine brF (I_neg1_ne (by omega)) ?_
  have e0 : 8 * I k = I (8 * k) := L_mul 8 k
  have e1 : 8 * (I k + I s) = I (8 * (k + s)) := by rw [I_add]; exact L_mul 8 (k + s)
  rw [e0, e1]
  refine tlp_cnt (8 * s) (fun m q U => U = T ∧ q = I (8 * k + m) ∧ ∀ j, 8 * k ≤ j → j < 8 * k + m → j ∉ cls S.E S.M i) ⟨rfl, rfl, fun j h1 h2 => by omega⟩ ?_
  intro m q U K hm hh hK
  obtain ⟨hU, hq, hno⟩ := hh
  rw [hU, hq]
  by_cases em : m = 8 * s
  · subst em
    rw [iP_neg (fun hh => by obtain ⟨_, _, j, h1, h2, h3⟩ := hh; exact hno j h1 (by omega) h3)] at h
    exact brT (by (first | omega | ((try simp (disch := omega) only [L_le, le_L, L_lt, lt_L, eq_L, L_eq, I_le, I_lt, I_eq, I_ni, add_L, L_add, I_add, mul_L, L_mul, I_mul, sub_L, L_sub, I_sub, div_L, rem_L]); done) | ((try simp (disch := omega) only [L_le, le_L, L_lt, lt_L, eq_L, L_eq, I_le, I_lt, I_eq, I_ni, add_L, L_add, I_add, mul_L, L_mul, I_mul, sub_L, L_sub, I_sub, div_L, rem_L]); omega))) h
  refine brF (by (first | omega | ((try simp (disch := omega) only [L_le, le_L, L_lt, lt_L, eq_L, L_eq, I_le, I_lt, I_eq, I_ni, add_L, L_add, I_add, mul_L, L_mul, I_mul, sub_L, L_sub, I_sub, div_L, rem_L]); done) | ((try simp (disch := omega) only [L_le, le_L, L_lt, lt_L, eq_L, L_eq, I_le, I_lt, I_eq, I_ni, add_L, L_add, I_add, mul_L, L_mul, I_mul, sub_L, L_sub, I_sub, div_L, rem_L]); omega))) ⟨tix_I rfl (by show _ < 320; omega) (by decide), ?_⟩
  rw [I_ni (show 8 * k + m < 2147483648 by omega), q1.B.th _ (by omega)]
  have go : 8 * k + m ∉ cls S.E S.M i → K (I (8 * k + m) + 1) T := by
    intro hn
    (try simp (disch := omega) only [L_le, le_L, L_lt, lt_L, eq_L, L_eq, I_le, I_lt, I_eq, I_ni, add_L, L_add, I_add, mul_L, L_mul, I_mul, sub_L, L_sub, I_sub, div_L, rem_L])
    refine hK _ _ (by omega) ⟨rfl, by rw [Nat.add_assoc], fun j h1 h2 => ?_⟩
    by_cases ej : j = 8 * k + m
    · rw [ej]; exact hn
    · exact hno j h1 (by omega)
  by_cases hVm : V.is G (8 * k + m)
  rotate_left
  · rw [iP_neg hVm]
    exact brT rfl (go (fun hh => hVm ((IS.vv _).1 (S.cls_V hV hh))))
  rw [iP_pos hVm]
  refine brF (by decide) ⟨tix_I rfl (by show _ < 320; omega) (by decide), tix_I rfl (by show _ < 320; omega) (by decide), ?_⟩
  rw [e29]
  have hq2 := q1.K.eq (by omega) hV htr (show 8 * k + m < 320 by omega)
  by_cases hc : 8 * k + m ∈ cls S.E S.M i
  · rw [iP_pos ⟨hV, htr, 8 * k + m, by omega, by omega, hc⟩] at h
    exact brT (hq2.2 hc) h
  · exact brF (fun hh => hc (hq2.1 hh)) (go hc)

theorem I_shift {a m s : Nat} (h : s ≤ a + m) : I a + (I m - I s) = I (a + m - s) := by
  rw [← I_sub h, ← I_add, Int32.sub_eq_add_neg, Int32.sub_eq_add_neg, Int32.add_assoc]
theorem I_df {m s : Nat} (hm : m ≤ 1000) (hs : s ≤ 1000) : (I m - I s ≤ 0 ↔ m ≤ s) ∧ (I m - I s = 0 ↔ m = s) := by
  have e : (I m - I s).toInt = (m : Int) - s := by
    rw [Int32.toInt_sub, I_toInt (by omega), I_toInt (by omega)]
    exact Int.bmod_eq_of_le (by omega) (by omega)
  have z : (0 : Int32).toInt = 0 := by decide
  constructor
  · rw [Int32.le_iff_toInt_le, e, z]; omega
  · rw [← Int32.toInt_inj, e, z]; omega

/-- rows of nodes and of instances, moved. -/
def MvI (T U : TS) (e f : Nat) (v : Int32) : Prop :=
  (U.a 19 f = T.a 19 e) ∧
  (U.a 20 f = T.a 20 e) ∧
  (U.a 21 f = v) ∧
  (∀ a, a < 8 → U.a 32 (8 * f + a) = T.a 32 (8 * e + a) ∧ U.a 39 (8 * f + a) = T.a 39 (8 * e + a) ∧ U.a 40 (8 * f + a) = 0)
theorem MvI.p {T U : TS} {e f : Nat} {v : Int32} (h9 : MvI T U e f v) : U.a 19 f = T.a 19 e := h9.1
theorem MvI.o {T U : TS} {e f : Nat} {v : Int32} (h9 : MvI T U e f v) : U.a 20 f = T.a 20 e := h9.2.1
theorem MvI.q {T U : TS} {e f : Nat} {v : Int32} (h9 : MvI T U e f v) : U.a 21 f = v := h9.2.2.1
theorem MvI.i {T U : TS} {e f : Nat} {v : Int32} (h9 : MvI T U e f v) : ∀ a, a < 8 → U.a 32 (8 * f + a) = T.a 32 (8 * e + a) ∧ U.a 39 (8 * f + a) = T.a 39 (8 * e + a) ∧ U.a 40 (8 * f + a) = 0 := h9.2.2.2
theorem MvI.keep {T U V : TS} {e f : Nat} {v : Int32} (M : MvI T U e f v) (hp : V.a 19 f = U.a 19 f) (ho : V.a 20 f = U.a 20 f) (hq : V.a 21 f = U.a 21 f) (hi : ∀ a, a < 8 → V.a 32 (8 * f + a) = U.a 32 (8 * f + a) ∧ V.a 39 (8 * f + a) = U.a 39 (8 * f + a) ∧ V.a 40 (8 * f + a) = U.a 40 (8 * f + a)) : MvI T V e f v :=
  ⟨hp.trans M.p, ho.trans M.o, hq.trans M.q, fun a ha => ⟨(hi a ha).1.trans (M.i a ha).1, (hi a ha).2.1.trans (M.i a ha).2.1, (hi a ha).2.2.trans (M.i a ha).2.2⟩⟩

theorem pt_movesBehind {n b m s : Nat} {w : Nat → Int32} (hn : T.s 250 = I n) (hn40 : n ≤ 40) (hb : b ≤ n) (hsb : s ≤ b) (hm1 : 1 ≤ m) (hs1 : 1 ≤ s) (h40 : n + m - s ≤ 40) (hz : ∀ j, j < 320 → T.a 40 j = 0) (h39 : ∀ j, j < 320 → T.a 39 j = 0 ∨ T.a 39 j = 1)
    (hw : ∀ e, b ≤ e → e < n → w e = if T.a 21 e < I b then T.a 21 e else T.a 21 e + (I m - I s)) {Q : TS → Prop}
    (h : ∀ U, Tch [19, 20, 21, 32, 39, 40] [] T U → (∀ e, b ≤ e → e < n → MvI T U e (e + m - s) (if m = s then T.a 21 e else w e)) → (∀ e, e < b + m - s → e < b → MvI T U e e (T.a 21 e)) → (∀ j, j < 320 → (U.a 39 j = 0 ∨ U.a 39 j = 1) ∧ U.a 40 j = 0) → Q U) : wp_X1_movesBehind (I b) (I m - I s) T Q := by
  have mid : ∀ e, e < 40 → MvI T T e e (T.a 21 e) := fun e he => ⟨rfl, rfl, rfl, fun a ha => ⟨rfl, rfl, hz _ (by omega)⟩⟩
  obtain ⟨d1, d2⟩ := I_df (m := m) (s := s) (by omega) (by omega)
  intro m1 hm m3 hm3
  by_cases hms : m = s
  · refine tlp_cnt 0 (fun _ q U => U = T) rfl ?_
    intro _ q U K _ hU _
    rw [hU]
    refine brT (.inl (d2.2 hms)) (h T (Tch.refl T) (fun e h1 h2 => ?_) (fun e h1 h2 => mid e (by omega)) (fun j hj => ⟨h39 j hj, hz j hj⟩))
    rw [if_pos hms, show e + m - s = e by omega]
    exact mid e (by omega)
  -- in which order
  obtain ⟨od, o1, o2, o3, o4, o5, o6⟩ : ∃ od : Nat → Nat, m3 = I (od 0) ∧ (∀ t, t < n - b → I (od t) + m1 = I (od (t + 1))) ∧ (∀ t, t < n - b → b ≤ od t ∧ od t < n) ∧ (I (od (n - b)) < I b ∨ I n ≤ I (od (n - b))) ∧ (∀ t u, t < u → u < n - b → od t ≠ od u ∧ od t + m - s ≠ od u) ∧ (∀ e, b ≤ e → e < n → ∃ t, t < n - b ∧ od t = e) := by
    by_cases hle : m ≤ s
    · rw [if_pos (d1.2 hle)] at hm hm3
      refine ⟨fun t => b + t, by rw [hm3]; rfl, fun t ht => by rw [hm]; exact I_add _ 1, fun t ht => ?_, .inr ?_, fun t u h1 h2 => ?_, fun e h1 h2 => ⟨e - b, by omega, ?_⟩⟩
      · show b ≤ b + t ∧ b + t < n
        omega
      · show I n ≤ I (b + (n - b))
        exact (I_le (by omega) (by omega)).2 (by omega)
      · show b + t ≠ b + u ∧ b + t + m - s ≠ b + u
        omega
      · show b + (e - b) = e
        omega
    · rw [if_neg (fun hh => hle (d1.1 hh))] at hm hm3
      rw [hn] at hm3
      refine ⟨fun t => n - 1 - t, by rw [hm3]; exact I_sub (b := 1) (by omega), fun t ht => ?_, fun t ht => ?_, .inl ?_, fun t u h1 h2 => ?_, fun e h1 h2 => ⟨n - 1 - e, by omega, ?_⟩⟩
      · show I (n - 1 - t) + m1 = I (n - 1 - (t + 1))
        have e1 : I (n - 1 - t) - I 1 = I (n - 1 - t - 1) := I_sub (by omega)
        rw [hm, show n - 1 - (t + 1) = n - 1 - t - 1 by omega, ← e1, Int32.sub_eq_add_neg]
        rfl
      · show b ≤ n - 1 - t ∧ n - 1 - t < n
        omega
      · show I (n - 1 - (n - b)) < I b
        exact (I_lt (by omega) (by omega)).2 (by omega)
      · show n - 1 - t ≠ n - 1 - u ∧ n - 1 - t + m - s ≠ n - 1 - u
        omega
      · show n - 1 - (n - 1 - e) = e
        omega
  rw [o1]
  refine tlp_cnt (n - b) (fun t q U => q = I (od t) ∧ Tch [19, 20, 21, 32, 39, 40] [] T U ∧ (∀ u, u < t → MvI T U (od u) (od u + m - s) (w (od u))) ∧ (∀ u, t ≤ u → u < n - b → MvI T U (od u) (od u) (T.a 21 (od u))) ∧ (∀ e, e < b + m - s → e < b → MvI T U e e (T.a 21 e)) ∧ (∀ j, j < 320 → (U.a 39 j = 0 ∨ U.a 39 j = 1) ∧ U.a 40 j = 0)) ⟨rfl, Tch.refl T, fun u hu => absurd hu (by omega), fun u _ hu => mid _ (by have := (o3 u hu).2; omega), fun e _ he => mid e (by omega), fun j hj => ⟨h39 j hj, hz j hj⟩⟩ ?_
  intro t q U K ht hh hK
  obtain ⟨hq, F, i1, i2, i3, i4⟩ := hh
  have hnU : U.s 250 = I n := (F.s _ (by decide)).trans hn
  rw [hq, hnU]
  by_cases et : t = n - b
  · subst et
    refine brT (.inr ?_) (h U F (fun e h1 h2 => ?_) i3 i4)
    · rcases o4 with h' | h'
      · exact .inl h'
      · exact .inr h'
    · obtain ⟨u, hu, e'⟩ := o6 e h1 h2
      rw [if_neg hms, ← e']
      exact i1 u hu
  have ht' : t < n - b := by omega
  obtain ⟨r1, r2⟩ := o3 t ht'
  have M := i2 t (Nat.le_refl _) ht'
  generalize hE : od t = E at *
  have hTgt : E + m - s < 40 ∧ b + m - s ≤ E + m - s := ⟨by omega, by omega⟩
  refine brF (fun hh => ?_) ?_
  · rcases hh with hh | hh | hh
    · exact hms (d2.1 hh)
    · have := (I_lt (by omega) (by omega)).1 hh; omega
    · have := (I_le (by omega) (by omega)).1 hh; omega
  have eT : I E + (I m - I s) = I (E + m - s) := I_shift (by omega)
  rw [eT]
  refine ⟨tix_I rfl (by show _ < 40; omega) (by decide), tix_I rfl (by show _ < 40; omega) (by decide), ?_⟩
  rw [I_ni (show E < 2147483648 by omega), I_ni (show E + m - s < 2147483648 by omega), M.p]
  intro U1 h1
  refine ⟨tix_I rfl (by show _ < 40; omega) (by decide), tix_I rfl (by show _ < 40; omega) (by decide), ?_⟩
  rw [show U1.a 20 E = T.a 20 E by rw [h1, sa_off _ (by decide)]; exact M.o]
  intro U2 h2
  have e21 : U2.a 21 E = T.a 21 E := by rw [h2, sa_off _ (by decide), h1, sa_off _ (by decide)]; exact M.q
  refine ⟨tix_I rfl (by show _ < 40; omega) (by decide), ?_⟩
  rw [e21]
  refine ⟨fun v V => v = w E ∧ V = U2, ?_, ?_⟩
  · have hwE := hw E r1 r2
    by_cases hc : T.a 21 E < I b
    · rw [if_pos hc] at hwE
      exact brT hc ⟨tix_I rfl (by show _ < 40; omega) (by decide), hwE.symm, rfl⟩
    · rw [if_neg hc] at hwE
      exact brF hc ⟨tix_I rfl (by show _ < 40; omega) (by decide), hwE.symm, rfl⟩
  intro v V hV
  obtain ⟨hv, hV⟩ := hV
  rw [hv, hV]
  refine ⟨tix_I rfl (by show _ < 40; omega) (by decide), ?_⟩
  intro U3 h3
  have F3 : Tch [19, 20, 21, 32, 39, 40] [] T U3 := by rw [h3, h2, h1]; exact ((F.sa (by decide) _ _).sa (by decide) _ _).sa (by decide) _ _
  have a19 : U3.a 19 = updN (U.a 19) (E + m - s) (T.a 19 E) := by rw [h3, sa_off _ (by decide), h2, sa_off _ (by decide), h1, sa_at]
  have a20 : U3.a 20 = updN (U.a 20) (E + m - s) (T.a 20 E) := by rw [h3, sa_off _ (by decide), h2, sa_at, h1, sa_off _ (by decide)]
  have a21 : U3.a 21 = updN (U.a 21) (E + m - s) (w E) := by rw [h3, sa_at, h2, sa_off _ (by decide), h1, sa_off _ (by decide)]
  have ax : ∀ j, j ∈ [32, 39, 40] → U3.a j = U.a j := fun j hj => by rw [h3, sa_off _ (by revert j; decide), h2, sa_off _ (by revert j; decide), h1, sa_off _ (by revert j; decide)]
  have e8 : 8 * I E = I (8 * E) := L_mul 8 E
  have e8' : 8 * I (E + m - s) = I (8 * (E + m - s)) := L_mul 8 (E + m - s)
  have hne : E + m - s ≠ E := by omega
  rw [e8, e8']
  refine tlp_cnt 8 (fun a q W => q = I a ∧ Tch [32, 39, 40] [] U3 W ∧ (∀ c, c < a → W.a 32 (8 * (E + m - s) + c) = T.a 32 (8 * E + c) ∧ W.a 39 (8 * (E + m - s) + c) = T.a 39 (8 * E + c) ∧ W.a 40 (8 * (E + m - s) + c) = 0) ∧ (∀ j, (j < 8 * (E + m - s) ∨ 8 * (E + m - s) + 8 ≤ j) → W.a 32 j = U.a 32 j ∧ W.a 39 j = U.a 39 j ∧ W.a 40 j = U.a 40 j) ∧ (∀ j, j < 320 → (W.a 39 j = 0 ∨ W.a 39 j = 1) ∧ W.a 40 j = 0)) ⟨rfl, Tch.refl _, fun c hc => absurd hc (by omega), fun j _ => ⟨by rw [ax 32 (by decide)], by rw [ax 39 (by decide)], by rw [ax 40 (by decide)]⟩, by rw [ax 39 (by decide), ax 40 (by decide)]; exact i4⟩ ?_
  intro a q W K2 ha hh hK2
  obtain ⟨hq2, FW, j1, j2, j3⟩ := hh
  rw [hq2]
  by_cases ea : a = 8
  · subst ea
    refine brT (by (first | omega | ((try simp (disch := omega) only [L_le, le_L, L_lt, lt_L, eq_L, L_eq, I_le, I_lt, I_eq, I_ni, add_L, L_add, I_add, mul_L, L_mul, I_mul, sub_L, L_sub, I_sub, div_L, rem_L]); done) | ((try simp (disch := omega) only [L_le, le_L, L_lt, lt_L, eq_L, L_eq, I_le, I_lt, I_eq, I_ni, add_L, L_add, I_add, mul_L, L_mul, I_mul, sub_L, L_sub, I_sub, div_L, rem_L]); omega))) ?_
    rw [← hE, o2 t ht']
    have FW' : Tch [19, 20, 21, 32, 39, 40] [] T W := F3.trans ⟨fun j hj => FW.a j (fun hh => hj (by revert hh; simp; omega)), FW.s, FW.w, FW.l⟩
    have k19 : ∀ f, f ≠ E + m - s → W.a 19 f = U.a 19 f ∧ W.a 20 f = U.a 20 f ∧ W.a 21 f = U.a 21 f := fun f hf => ⟨by rw [FW.a 19 (by decide), a19, updN_ne _ _ hf], by rw [FW.a 20 (by decide), a20, updN_ne _ _ hf], by rw [FW.a 21 (by decide), a21, updN_ne _ _ hf]⟩
    have kk : ∀ e f v, f ≠ E + m - s → MvI T U e f v → MvI T W e f v := fun e f v hf M' => by
      obtain ⟨g1, g2, g3⟩ := k19 f hf
      exact M'.keep g1 g2 g3 (fun a ha => j2 (8 * f + a) (by omega))
    refine hK _ _ ht' ⟨rfl, FW', fun u hu => ?_, fun u hu1 hu2 => ?_, fun e h1 h2 => ?_, j3⟩
    · by_cases eu : u = t
      · subst eu
        rw [hE]
        exact ⟨by rw [FW.a 19 (by decide), a19, updN_same], by rw [FW.a 20 (by decide), a20, updN_same], by rw [FW.a 21 (by decide), a21, updN_same], fun a ha => j1 a ha⟩
      · refine kk _ _ _ ?_ (i1 u (by omega))
        have h5 := (o5 u t (by omega) ht').1
        have h6 := o3 u (by omega)
        rw [hE] at h5
        omega
    · refine kk _ _ _ ?_ (i2 u (by omega) hu2)
      have h5 := (o5 t u (by omega) hu2).2
      rw [hE] at h5
      exact fun hh => h5 hh.symm
    · exact kk _ _ _ (by omega) (i3 e h1 h2)
  have ha' : a < 8 := by omega
  refine brF (by (first | omega | ((try simp (disch := omega) only [L_le, le_L, L_lt, lt_L, eq_L, L_eq, I_le, I_lt, I_eq, I_ni, add_L, L_add, I_add, mul_L, L_mul, I_mul, sub_L, L_sub, I_sub, div_L, rem_L]); done) | ((try simp (disch := omega) only [L_le, le_L, L_lt, lt_L, eq_L, L_eq, I_le, I_lt, I_eq, I_ni, add_L, L_add, I_add, mul_L, L_mul, I_mul, sub_L, L_sub, I_sub, div_L, rem_L]); omega))) ?_
  (try simp (disch := omega) only [L_le, le_L, L_lt, lt_L, eq_L, L_eq, I_le, I_lt, I_eq, I_ni, add_L, L_add, I_add, mul_L, L_mul, I_mul, sub_L, L_sub, I_sub, div_L, rem_L])
  refine ⟨tix_I rfl (by show _ < 320; omega) (by decide), tix_I rfl (by show _ < 320; omega) (by decide), ?_⟩
  have src : W.a 32 (8 * E + a) = T.a 32 (8 * E + a) ∧ W.a 39 (8 * E + a) = T.a 39 (8 * E + a) := by
    obtain ⟨g1, g2, g3⟩ := j2 (8 * E + a) (by omega)
    exact ⟨g1.trans (M.i a ha').1, g2.trans (M.i a ha').2.1⟩
  rw [src.1]
  intro W1 w1
  refine ⟨tix_I rfl (by show _ < 320; omega) (by decide), tix_I rfl (by show _ < 320; omega) (by decide), ?_⟩
  have b39 := h39 (8 * E + a) (by omega)
  have enr : vp_nar .boolean (T.a 39 (8 * E + a)) = T.a 39 (8 * E + a) := by rcases b39 with e | e <;> rw [e] <;> rfl
  rw [show W1.a 39 (8 * E + a) = T.a 39 (8 * E + a) by rw [w1, sa_off _ (by decide)]; exact src.2, enr]
  intro W2 w2
  refine ⟨tix_I rfl (by show _ < 320; omega) (by decide), ?_⟩
  intro W3 w3
  have c32 : W3.a 32 = updN (W.a 32) (8 * (E + m - s) + a) (T.a 32 (8 * E + a)) := by rw [w3, sa_off _ (by decide), w2, sa_off _ (by decide), w1, sa_at]
  have c39 : W3.a 39 = updN (W.a 39) (8 * (E + m - s) + a) (T.a 39 (8 * E + a)) := by rw [w3, sa_off _ (by decide), w2, sa_at, w1, sa_off _ (by decide)]
  have c40 : W3.a 40 = updN (W.a 40) (8 * (E + m - s) + a) 0 := by rw [w3, sa_at, w2, sa_off _ (by decide), w1, sa_off _ (by decide)]; rfl
  refine hK2 _ _ ha' ⟨rfl, by rw [w3, w2, w1]; exact ((FW.sa (by decide) _ _).sa (by decide) _ _).sa (by decide) _ _, fun c hc => ?_, fun j hj => ?_, fun j hj => ?_⟩
  · rw [c32, c39, c40]
    by_cases ec : c = a
    · rw [ec, updN_same, updN_same, updN_same]; exact ⟨rfl, rfl, rfl⟩
    · rw [updN_ne _ _ (by omega), updN_ne _ _ (by omega), updN_ne _ _ (by omega)]; exact j1 c (by omega)
  · rw [c32, c39, c40, updN_ne _ _ (by omega), updN_ne _ _ (by omega), updN_ne _ _ (by omega)]; exact j2 j hj
  · rw [c39, c40]
    by_cases ej : j = 8 * (E + m - s) + a
    · rw [ej, updN_same, updN_same]; exact ⟨b39, rfl⟩
    · rw [updN_ne _ _ ej, updN_ne _ _ ej]; exact j3 j hj
end
