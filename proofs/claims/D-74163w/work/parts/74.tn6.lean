/-! plain: tn6 -/
set_option maxRecDepth 100000
section
variable {G : Gv} {V : Tv} {T : TS} {gv : Nat → Int32} {S : Ist} {due nw : Nat → Prop} {old : Vl}

theorem pt_beginsChange {Q : TS → Prop} (h : ∀ U, Tch [32, 33, 39, 40, 41] [] T U → (∀ j, j < 320 → U.a 39 j = 0 ∧ U.a 40 j = 0 ∧ U.a 41 j = 0 ∧ U.a 32 j = T.a 28 j) → Q U) : wp_X1_beginsChange T Q := by
  unfold wp_X1_beginsChange
  refine tlp_cnt 320 (fun k s U => s = I k ∧ Tch [32, 33, 39, 40, 41] [] T U ∧ ∀ j, j < k → U.a 39 j = 0 ∧ U.a 40 j = 0 ∧ U.a 41 j = 0 ∧ U.a 32 j = T.a 28 j) ⟨rfl, Tch.refl T, fun j hj => by omega⟩ ?_
  intro k s U K hk hh hK
  obtain ⟨hs, F, h1⟩ := hh
  rw [hs]
  clear hs s
  by_cases e : k = 320
  · subst e
    exact brT (by (first | omega | ((try simp (disch := omega) only [L_le, le_L, L_lt, lt_L, eq_L, L_eq, I_le, I_lt, I_eq, I_ni, add_L, L_add, I_add, mul_L, L_mul, I_mul, sub_L, L_sub, I_sub, div_L, rem_L]); done) | ((try simp (disch := omega) only [L_le, le_L, L_lt, lt_L, eq_L, L_eq, I_le, I_lt, I_eq, I_ni, add_L, L_add, I_add, mul_L, L_mul, I_mul, sub_L, L_sub, I_sub, div_L, rem_L]); omega))) (h U F h1)
  have hk' : k < 320 := by omega
  refine brF (by (first | omega | ((try simp (disch := omega) only [L_le, le_L, L_lt, lt_L, eq_L, L_eq, I_le, I_lt, I_eq, I_ni, add_L, L_add, I_add, mul_L, L_mul, I_mul, sub_L, L_sub, I_sub, div_L, rem_L]); done) | ((try simp (disch := omega) only [L_le, le_L, L_lt, lt_L, eq_L, L_eq, I_le, I_lt, I_eq, I_ni, add_L, L_add, I_add, mul_L, L_mul, I_mul, sub_L, L_sub, I_sub, div_L, rem_L]); omega))) ?_
  (try simp (disch := omega) only [L_le, le_L, L_lt, lt_L, eq_L, L_eq, I_le, I_lt, I_eq, I_ni, add_L, L_add, I_add, mul_L, L_mul, I_mul, sub_L, L_sub, I_sub, div_L, rem_L])
  refine ⟨tix_I rfl (by show _ < 320; omega) (by decide), ?_⟩
  intro U1 hU1
  refine ⟨tix_I rfl (by show _ < 320; omega) (by decide), ?_⟩
  intro U2 hU2
  refine ⟨tix_I rfl (by show _ < 320; omega) (by decide), ?_⟩
  intro U3 hU3
  refine ⟨tix_I rfl (by show _ < 320; omega) (by decide), tix_I rfl (by show _ < 320; omega) (by decide), ?_⟩
  intro U4 hU4
  refine ⟨tix_I rfl (by show _ < 320; omega) (by decide), tix_I rfl (by show _ < 320; omega) (by decide), ?_⟩
  intro U5 hU5
  have F3 : Tch [32, 33, 39, 40, 41] [] T U3 := by rw [hU3, hU2, hU1]; exact ((F.sa (by decide) _ _).sa (by decide) _ _).sa (by decide) _ _
  rw [F3.a 28 (by decide)] at hU4
  have F5 : Tch [32, 33, 39, 40, 41] [] T U5 := by rw [hU5, hU4]; exact (F3.sa (by decide) _ _).sa (by decide) _ _
  have a39 : U5.a 39 = updN (U.a 39) k 0 := by rw [hU5, sa_off _ (by decide), hU4, sa_off _ (by decide), hU3, sa_off _ (by decide), hU2, sa_off _ (by decide), hU1, sa_at]; rfl
  have a40 : U5.a 40 = updN (U.a 40) k 0 := by rw [hU5, sa_off _ (by decide), hU4, sa_off _ (by decide), hU3, sa_off _ (by decide), hU2, sa_at, hU1, sa_off _ (by decide)]; rfl
  have a41 : U5.a 41 = updN (U.a 41) k 0 := by rw [hU5, sa_off _ (by decide), hU4, sa_off _ (by decide), hU3, sa_at, hU2, sa_off _ (by decide), hU1, sa_off _ (by decide)]; rfl
  have a32 : U5.a 32 = updN (U.a 32) k (T.a 28 k) := by rw [hU5, sa_off _ (by decide), hU4, sa_at, hU3, sa_off _ (by decide), hU2, sa_off _ (by decide), hU1, sa_off _ (by decide)]
  refine hK _ _ hk' ⟨rfl, F5, fun j hj => ?_⟩
  rw [a39, a40, a41, a32]
  by_cases ej : j = k
  · rw [ej, updN_same, updN_same, updN_same, updN_same]; exact ⟨rfl, rfl, rfl, rfl⟩
  · rw [updN_ne _ _ ej, updN_ne _ _ ej, updN_ne _ _ ej, updN_ne _ _ ej]; exact h1 j (by omega)

theorem pt_hangsOnChanged (IS : IsI S G V gv) (X : V.WF G) (x : TwX T G V gv S) {C : Nat → Prop} (hC : ∀ j, j < 320 → T.a 41 j = iP (C j)) {i : Nat} (hi : S.V i) {Q : Int32 → TS → Prop} (h : Q (iP (∃ y, S.E i y ∧ C y)) T) : wp_X1_hangsOnChanged (I i) T Q := by
  have h40 := X.n40
  have hMM := IS.mm
  have hlt := S.hV i hi
  unfold wp_X1_hangsOnChanged
  refine tlp_cnt (8 * V.n) (fun k s U => s = I k ∧ U = T ∧ ∀ j, j < k → ¬ (S.E i j ∧ C j)) ⟨rfl, rfl, fun j hj => by omega⟩ ?_
  intro k s U K hk hh hK
  obtain ⟨hs, hU, hf⟩ := hh
  rw [hs, hU, x.J.n]
  clear hs hU s U
  (try simp (disch := omega) only [L_le, le_L, L_lt, lt_L, eq_L, L_eq, I_le, I_lt, I_eq, I_ni, add_L, L_add, I_add, mul_L, L_mul, I_mul, sub_L, L_sub, I_sub, div_L, rem_L])
  by_cases e : k = 8 * V.n
  · refine brT (by omega) ?_
    rw [iP_neg (fun ⟨y, hy, hc⟩ => hf y (by have := S.hV _ (S.hE _ _ hy).2; omega) ⟨hy, hc⟩)] at h
    exact h
  have hk' : k < 8 * V.n := by omega
  refine brF (by omega) ?_
  refine pt_bit (.inl rfl) (by omega) (by omega) ?_
  have hb := x.N i k (by omega) (by omega)
  have hgo : ¬ (S.E i k ∧ C k) → K (I (k + 1)) T := fun hk2 => hK _ _ hk' ⟨rfl, rfl, fun j hj => by
    by_cases ej : j = k
    · subst ej; exact hk2
    · exact hf j (by omega)⟩
  by_cases hE : S.E i k
  rotate_left
  · rw [if_neg (fun hh => hE (hb.1 hh))]
    exact brT rfl (hgo (fun hh => hE hh.1))
  rw [if_pos (hb.2 hE)]
  refine brF (by decide) ⟨tix_I rfl (by show _ < 320; omega) (by decide), ?_⟩
  rw [hC k (by omega)]
  by_cases hc : C k
  · rw [iP_pos hc]
    refine brF (by decide) ?_
    rw [iP_pos ⟨k, hE, hc⟩] at h
    exact h
  · rw [iP_neg hc]
    exact brT rfl (hgo (fun hh => hc hh.2))

theorem pt_isTouched (IS : IsI S G V gv) (X : V.WF G) (x : TwX T G V gv S) {C : Nat → Prop} (hC : ∀ j, j < 320 → T.a 41 j = iP (C j)) (hd : ∀ j, j < 320 → T.a 39 j = iP (due j)) (hn : ∀ j, j < 320 → T.a 40 j = iP (nw j)) (hnd : ∀ y, S.V y → nw y → due y) {i : Nat} (hi : S.V i) {Q : Int32 → TS → Prop} (h : Q (iP (due i ∨ ∃ y, S.E i y ∧ C y)) T) : wp_X1_isTouched (I i) T Q := by
  have h40 := X.n40
  have hMM := IS.mm
  have hlt := S.hV i hi
  unfold wp_X1_isTouched
  (try simp (disch := omega) only [L_le, le_L, L_lt, lt_L, eq_L, L_eq, I_le, I_lt, I_eq, I_ni, add_L, L_add, I_add, mul_L, L_mul, I_mul, sub_L, L_sub, I_sub, div_L, rem_L])
  refine ⟨tix_I rfl (by show _ < 320; omega) (by decide), ?_⟩
  rw [hd i (by omega)]
  by_cases h1 : due i
  · rw [iP_pos h1]
    refine brF (by decide) ?_
    rw [iP_pos (.inl h1)] at h
    exact h
  rw [iP_neg h1]
  refine brT rfl ⟨tix_I rfl (by show _ < 320; omega) (by decide), ?_⟩
  rw [hn i (by omega), iP_neg (fun hh => h1 (hnd i hi hh))]
  refine brT rfl ?_
  refine pt_hangsOnChanged IS X x hC hi ?_
  intro m hm
  by_cases hx : ∃ y, S.E i y ∧ C y
  · rw [iP_pos hx, if_neg (by decide)] at hm
    rw [iP_pos (.inr hx)] at h
    rw [hm]
    exact ⟨.inr rfl, h⟩
  · rw [iP_neg hx, if_pos rfl] at hm
    rw [iP_neg (fun hh => hh.elim h1 hx)] at h
    rw [hm]
    exact ⟨.inl rfl, h⟩

theorem pt_isOf (IS : IsI S G V gv) (X : V.WF G) (x : TwX T G V gv S) {i g : Nat} (hi : i < 8 * V.n) (hg : S.V g) (hh0 : S.hd g = g) {Q : Int32 → TS → Prop} (h : Q (iP (i ∈ cls S.E S.M g)) T) : wp_X1_isOf (I i) (I g) T Q := by
  have h40 := X.n40
  have hMM := IS.mm
  have hlt := S.hV g hg
  unfold wp_X1_isOf
  (try simp (disch := omega) only [L_le, le_L, L_lt, lt_L, eq_L, L_eq, I_le, I_lt, I_eq, I_ni, add_L, L_add, I_add, mul_L, L_mul, I_mul, sub_L, L_sub, I_sub, div_L, rem_L])
  refine ⟨tix_I rfl (by show _ < 320; omega) (by decide), ?_⟩
  rw [x.B.th i (by omega)]
  by_cases hV : S.V i
  rotate_left
  · rw [iP_neg (fun hh => hV ((IS.vv i).2 hh))]
    refine brT rfl ?_
    rw [iP_neg (fun hh => hV (S.cls_V hg hh))] at h
    exact h
  rw [iP_pos ((IS.vv i).1 hV)]
  refine brF (by decide) ?_
  by_cases e : i = g
  · refine brT e ?_
    subst e
    rw [iP_pos (S.cls_self hg)] at h
    exact h
  refine brF e ⟨tix_I rfl (by show _ < 320; omega) (by decide), ?_⟩
  by_cases ht : Trc S.E g g
  · have e29 := (x.K g (by omega)).1 ⟨hg, ht⟩
    rw [hh0] at e29
    rw [e29]
    refine brF (I_neg1_ne (by omega)) ⟨tix_I rfl (by show _ < 320; omega) (by decide), tix_I rfl (by show _ < 320; omega) (by decide), ?_⟩
    have hq := x.K.eq (by omega) hg ht (show i < 320 by omega)
    rw [hh0] at hq
    intro m hm
    by_cases hc : i ∈ cls S.E S.M g
    · rw [if_pos (hq.2 hc)] at hm
      rw [iP_pos hc] at h
      rw [hm]
      exact ⟨.inr rfl, h⟩
    · rw [if_neg (fun hh => hc (hq.1 hh))] at hm
      rw [iP_neg hc] at h
      rw [hm]
      exact ⟨.inl rfl, h⟩
  · rw [(x.K g (by omega)).2 (fun hh => ht hh.2)]
    refine brT rfl ?_
    rw [iP_neg (fun hh => e (S.alone ht hh))] at h
    exact h

theorem dO_take {O : List Nat} {n y : Nat} (hn : n < O.length) : dO S (O.take (n + 1)) y ↔ dO S (O.take n) y ∨ y ∈ cls S.E S.M (O.getD n 0) := by
  rw [(tk_dr 0 O n hn).2, dO_snoc]

theorem pt_counts (W : G.WF) (P : V.PO G) (R : G.RL) (IS : IsI S G V gv) (X : V.WF G) (J : TwI T G V gv) (hd : ∀ j, j < 320 → T.a 39 j = iP (due j)) (hn : ∀ j, j < 320 → T.a 40 j = iP (nw j)) (h41 : ∀ j, j < 320 → T.a 41 j = 0) (hold : ∀ j, S.V j → T.a 32 j = old j) (hnd : ∀ y, S.V y → nw y → due y) {Q : TS → Prop}
    (h : ∀ U O, Tch [26, 27, 28, 29, 30, 31, 34, 35, 36, 37, 38, 41, 42] [253, 254, 255, 272] T U → TwX U G V gv S → TwE U S O → U.s 253 = 1 → U.s 254 = I (cnP (fun i => S.V i ∧ S.tch due nw old i) S.M) → U.s 255 = I (cnP (fun i => S.V i ∧ S.chg due nw old i) S.M) → Q U) : wp_X1_counts T Q := by
  have h40 := X.n40
  have hMM := IS.mm
  unfold wp_X1_counts
  refine pt_settles W P R IS X J ?_
  intro T1 O F1 x1 Z1
  intro T2 hT2 T3 hT3 T4 hT4
  have F4 : Tch [] [253, 254, 255] T1 T4 := by rw [hT4, hT3, hT2]; exact (((Tch.refl T1).ss (by decide) _).ss (by decide) _).ss (by decide) _
  have s253 : T4.s 253 = 1 := by rw [hT4, ss_s, if_neg (by decide), hT3, ss_s, if_neg (by decide), hT2, ss_s, if_pos rfl]
  have s254 : T4.s 254 = 0 := by rw [hT4, ss_s, if_neg (by decide), hT3, ss_s, if_pos rfl]
  have s255 : T4.s 255 = 0 := by rw [hT4, ss_s, if_pos rfl]
  have z254 : I (cnP (fun j => dO S (O.take 0) j ∧ S.tch due nw old j) S.M) = 0 := by
    rw [cnP_none (fun i _ hh => absurd hh.1 (dO_nil i))]; rfl
  have z255 : I (cnP (fun j => dO S (O.take 0) j ∧ S.chg due nw old j) S.M) = 0 := by
    rw [cnP_none (fun i _ hh => absurd hh.1 (dO_nil i))]; rfl
  refine tlp_cnt O.length (fun n s U => s = I n ∧ Tch [41] [254, 255] T4 U ∧ U.s 254 = I (cnP (fun j => dO S (O.take n) j ∧ S.tch due nw old j) S.M) ∧ U.s 255 = I (cnP (fun j => dO S (O.take n) j ∧ S.chg due nw old j) S.M) ∧ ∀ j, j < 320 → U.a 41 j = iP (dO S (O.take n) j ∧ S.chg due nw old j)) ⟨rfl, Tch.refl T4, s254.trans z254.symm, s255.trans z255.symm, fun j hj => by rw [iP_neg (fun hh => absurd hh.1 (dO_nil j)), F4.a 41 (by decide), F1.a 41 (by decide)]; exact h41 j hj⟩ ?_
  have F14 : Tch [26, 27, 28, 29, 30, 31, 34, 35, 36, 37, 38, 41, 42] [253, 254, 255, 272] T T4 := (F1.mono (by decide) (by decide)).trans (F4.mono (by decide) (by decide))
  have x4 := x1.keep F4 (by decide) (by decide)
  have n4 : T4.s 272 = I O.length := (F4.s 272 (by decide)).trans Z1.n
  have o4 : ∀ n, n < O.length → T4.a 31 n = I (O.getD n 0) := fun n hl => by rw [F4.a 31 (by decide)]; exact Z1.o n hl
  have v4 : ∀ j, S.V j → T4.a 28 j = S.val j := fun j hj => by rw [F4.a 28 (by decide)]; exact Z1.v j hj
  have d4 : ∀ j, j < 320 → T4.a 39 j = iP (due j) := fun j hj => by rw [F14.a 39 (by decide)]; exact hd j hj
  have w4 : ∀ j, j < 320 → T4.a 40 j = iP (nw j) := fun j hj => by rw [F14.a 40 (by decide)]; exact hn j hj
  have l4 : ∀ j, S.V j → T4.a 32 j = old j := fun j hj => by rw [F14.a 32 (by decide)]; exact hold j hj
  have k4 := Z1.k
  have c4 := Z1.c
  have fin : ∀ U, Tch [41] [254, 255] T4 U → U.s 254 = I (cnP (fun j => dO S O j ∧ S.tch due nw old j) S.M) → U.s 255 = I (cnP (fun j => dO S O j ∧ S.chg due nw old j) S.M) → Q U := by
    intro U F e1 e2
    have hdo : ∀ j, dO S O j ↔ S.V j := fun j => ⟨fun ⟨g, hg, hj⟩ => by
      obtain ⟨n, hn, e⟩ := List.mem_iff_getElem.1 hg
      have := (k4 n hn).1
      rw [List.getD_eq_getElem?_getD, List.getElem?_eq_getElem hn] at this
      rw [← e] at hj
      exact S.cls_V this hj, Z1.all j⟩
    refine h U O (F14.trans (F.mono (by decide) (by decide))) (x4.keep F (by decide) (by decide)) ⟨by rw [F.a 28 (by decide)]; exact v4, by rw [F.a 30 (by decide), F.a 37 (by decide), F4.a 30 (by decide), F4.a 37 (by decide)]; exact Z1.t, (F.s 272 (by decide)).trans n4, by rw [F.a 31 (by decide)]; exact o4, k4, c4, Z1.all⟩ ((F.s 253 (by decide)).trans s253) ?_ ?_
    · rw [e1]; congr 1; exact cnP_congr (fun i _ => by rw [hdo i])
    · rw [e2]; congr 1; exact cnP_congr (fun i _ => by rw [hdo i])
  clear Z1 x1 F1 F4 hT2 hT3 hT4 s253 s254 s255 z254 z255 h T1 T2 T3 F14 h41 hold hn hd J
  intro n s U K hn hh hK
  obtain ⟨hs, F, e1, e2, hC⟩ := hh
  rw [hs]
  clear hs s
  have nU : U.s 272 = I O.length := (F.s 272 (by decide)).trans n4
  rw [nU]
  by_cases e : n = O.length
  · refine brT (by (first | omega | ((try simp (disch := omega) only [L_le, le_L, L_lt, lt_L, eq_L, L_eq, I_le, I_lt, I_eq, I_ni, add_L, L_add, I_add, mul_L, L_mul, I_mul, sub_L, L_sub, I_sub, div_L, rem_L]); done) | ((try simp (disch := omega) only [L_le, le_L, L_lt, lt_L, eq_L, L_eq, I_le, I_lt, I_eq, I_ni, add_L, L_add, I_add, mul_L, L_mul, I_mul, sub_L, L_sub, I_sub, div_L, rem_L]); omega))) ?_
    subst e
    rw [List.take_length] at e1 e2
    exact fin U F e1 e2
  have hn' : n < O.length := by omega
  clear fin
  refine brF (by (first | omega | ((try simp (disch := omega) only [L_le, le_L, L_lt, lt_L, eq_L, L_eq, I_le, I_lt, I_eq, I_ni, add_L, L_add, I_add, mul_L, L_mul, I_mul, sub_L, L_sub, I_sub, div_L, rem_L]); done) | ((try simp (disch := omega) only [L_le, le_L, L_lt, lt_L, eq_L, L_eq, I_le, I_lt, I_eq, I_ni, add_L, L_add, I_add, mul_L, L_mul, I_mul, sub_L, L_sub, I_sub, div_L, rem_L]); omega))) ⟨tix_I rfl (by show _ < 320; omega) (by decide), ?_⟩
  have hg := k4 n hn'
  have oU : U.a 31 n = I (O.getD n 0) := by rw [F.a 31 (by decide)]; exact o4 n hn'
  rw [I_ni (by omega), oU]
  obtain ⟨g, hgg⟩ : ∃ g, O.getD n 0 = g := ⟨_, rfl⟩
  have hdt : ∀ y, dO S (O.take (n + 1)) y ↔ dO S (O.take n) y ∨ y ∈ cls S.E S.M g := fun y => by rw [← hgg]; exact dO_take hn'
  rw [hgg] at hg ⊢
  obtain ⟨gV, gh, gn, gr⟩ := hg
  have hglt := S.hV g gV
  have hdis : ∀ j, dO S (O.take n) j → j ∉ cls S.E S.M g := fun j hd hj => gn (dO_cls hd (mem_cls.2 ⟨hglt, (mem_cls.1 hj).2.2, (mem_cls.1 hj).2.1⟩))
  -- touched
  have htc : (∃ j, j ∈ cls S.E S.M g ∧ (due j ∨ ∃ y, S.E j y ∧ (dO S (O.take n) y ∧ S.chg due nw old y))) ↔ S.tch due nw old g := by
    unfold Ist.tch
    constructor
    · rintro ⟨j, hj, hh⟩
      refine ⟨j, hj, ?_⟩
      rcases hh with hh | ⟨y, he, h1, h2⟩
      · exact .inl hh
      · exact .inr ⟨y, he, hdis y h1, h2⟩
    · rintro ⟨j, hj, hh⟩
      refine ⟨j, hj, ?_⟩
      rcases hh with hh | ⟨y, he, h1, h2⟩
      · exact .inl hh
      · exact .inr ⟨y, he, (gr j y hj he).resolve_right h1, h2⟩
  refine tlp_cnt (8 * V.n) (fun i s U2 => U2 = U ∧ ∃ b : Bool, s = (if b then 1 else 0, I i) ∧ (b = true ↔ ∃ j, j < i ∧ j ∈ cls S.E S.M g ∧ (due j ∨ ∃ y, S.E j y ∧ (dO S (O.take n) y ∧ S.chg due nw old y)))) ⟨rfl, false, rfl, ⟨fun hh => absurd hh (by decide), fun ⟨j, hj, _⟩ => absurd hj (Nat.not_lt_zero _)⟩⟩ ?_
  intro i s U2 K2 hi hh hK2
  obtain ⟨hU, b, hs, hb⟩ := hh
  have x := x4.keep F (by decide) (by decide)
  rw [hs, hU, x.J.n]
  clear hs hU s U2
  (try simp (disch := omega) only [L_le, le_L, L_lt, lt_L, eq_L, L_eq, I_le, I_lt, I_eq, I_ni, add_L, L_add, I_add, mul_L, L_mul, I_mul, sub_L, L_sub, I_sub, div_L, rem_L])
  by_cases ei : i = 8 * V.n
  rotate_left
  · have hi' : i < 8 * V.n := by omega
    refine brF (by omega) ?_
    cases b with
    | true =>
      refine brF (fun hh => absurd (show (1 : Int32) = 0 from hh) (by decide)) ?_
      refine hK2 _ _ hi' ⟨rfl, true, rfl, fun _ => ?_, fun _ => rfl⟩
      obtain ⟨j, h1, h2⟩ := hb.1 rfl
      exact ⟨j, by omega, h2⟩
    | false =>
      refine brT rfl ?_
      refine pt_isOf IS X x hi' gV gh ?_
      have hbn : ∀ j, j < i → ¬ (j ∈ cls S.E S.M g ∧ (due j ∨ ∃ y, S.E j y ∧ (dO S (O.take n) y ∧ S.chg due nw old y))) := fun j hj hh => absurd (hb.2 ⟨j, hj, hh⟩) (by decide)
      by_cases hc : i ∈ cls S.E S.M g
      rotate_left
      · rw [iP_neg hc]
        refine brT rfl (hK2 _ _ hi' ⟨rfl, false, rfl, fun hh => absurd hh (by decide), fun ⟨j, hj, hh⟩ => ?_⟩)
        by_cases ej : j = i
        · subst ej; exact absurd hh.1 hc
        · exact absurd hh (hbn j (by omega))
      rw [iP_pos hc]
      refine brF (by decide) ?_
      refine pt_isTouched IS X x hC (fun j hj => by rw [F.a 39 (by decide)]; exact d4 j hj) (fun j hj => by rw [F.a 40 (by decide)]; exact w4 j hj) hnd (S.cls_V gV hc) ?_
      intro m hm
      by_cases hx : due i ∨ ∃ y, S.E i y ∧ (dO S (O.take n) y ∧ S.chg due nw old y)
      · rw [iP_pos hx, if_neg (by decide)] at hm
        rw [hm]
        exact hK2 _ _ hi' ⟨rfl, true, rfl, fun _ => ⟨i, by omega, hc, hx⟩, fun _ => rfl⟩
      · rw [iP_neg hx, if_pos rfl] at hm
        rw [hm]
        refine hK2 _ _ hi' ⟨rfl, false, rfl, fun hh => absurd hh (by decide), fun ⟨j, hj, hh⟩ => ?_⟩
        by_cases ej : j = i
        · subst ej; exact absurd hh.2 hx
        · exact absurd hh (hbn j (by omega))
  refine brT (by omega) ?_
  have hb' : b = true ↔ S.tch due nw old g := by
    rw [hb, ← htc]
    constructor
    · rintro ⟨j, _, hh⟩; exact ⟨j, hh⟩
    · rintro ⟨j, hh⟩; exact ⟨j, by have := (mem_cls.1 hh.1).1; omega, hh⟩
  clear hb hK2 K2 hi ei i htc gr
  have htc : ∀ j, j ∈ cls S.E S.M g → (S.tch due nw old j ↔ b = true) := fun j hj => by rw [S.tch_cls gV hj, hb']
  refine tlp_cnt (8 * V.n) (fun i s U2 => s = I i ∧ Tch [41] [254, 255] T4 U2 ∧ U2.s 254 = I (cnP (fun j => dO S (O.take n) j ∧ S.tch due nw old j) S.M + cnP (fun j => j ∈ cls S.E S.M g ∧ S.tch due nw old j) i) ∧ U2.s 255 = I (cnP (fun j => dO S (O.take n) j ∧ S.chg due nw old j) S.M + cnP (fun j => j ∈ cls S.E S.M g ∧ S.chg due nw old j) i) ∧ (∀ j, j < 320 → U2.a 41 j = iP ((dO S (O.take n) j ∧ S.chg due nw old j) ∨ (j < i ∧ j ∈ cls S.E S.M g ∧ S.chg due nw old j)))) ⟨rfl, F, e1, e2, fun j hj => by rw [hC j hj]; exact iP_congr ⟨.inl, fun hh => hh.elim id (fun hh => absurd hh.1 (Nat.not_lt_zero _))⟩⟩ ?_
  have hcg : ∀ j, j ∈ cls S.E S.M g → (S.chg due nw old j ↔ b = true ∧ (nw j ∨ S.val j ≠ old j)) := fun j hj => by rw [S.chg_iff (S.cls_V gV hj), htc j hj]
  have done : ∀ U2, Tch [41] [254, 255] T4 U2 → U2.s 254 = I (cnP (fun j => dO S (O.take n) j ∧ S.tch due nw old j) S.M + cnP (fun j => j ∈ cls S.E S.M g ∧ S.tch due nw old j) S.M) → U2.s 255 = I (cnP (fun j => dO S (O.take n) j ∧ S.chg due nw old j) S.M + cnP (fun j => j ∈ cls S.E S.M g ∧ S.chg due nw old j) S.M) → (∀ j, j < 320 → U2.a 41 j = iP ((dO S (O.take n) j ∧ S.chg due nw old j) ∨ (j ∈ cls S.E S.M g ∧ S.chg due nw old j))) → K (I (n + 1)) U2 := by
    intro U2 F2 s1 s2 a2
    refine hK _ _ hn' ⟨rfl, F2, ?_, ?_, fun j hj => ?_⟩
    · rw [s1, ← cnP_or (fun j _ h1 h2 => hdis j h1.1 h2.1)]
      congr 1
      exact cnP_congr (fun j _ => by rw [hdt j]; exact ⟨fun hh => hh.elim (fun hh => ⟨.inl hh.1, hh.2⟩) (fun hh => ⟨.inr hh.1, hh.2⟩), fun hh => hh.1.elim (fun h1 => .inl ⟨h1, hh.2⟩) (fun h1 => .inr ⟨h1, hh.2⟩)⟩)
    · rw [s2, ← cnP_or (fun j _ h1 h2 => hdis j h1.1 h2.1)]
      congr 1
      exact cnP_congr (fun j _ => by rw [hdt j]; exact ⟨fun hh => hh.elim (fun hh => ⟨.inl hh.1, hh.2⟩) (fun hh => ⟨.inr hh.1, hh.2⟩), fun hh => hh.1.elim (fun h1 => .inl ⟨h1, hh.2⟩) (fun h1 => .inr ⟨h1, hh.2⟩)⟩)
    · rw [a2 j hj]
      exact iP_congr (by rw [hdt j]; exact ⟨fun hh => hh.elim (fun hh => ⟨.inl hh.1, hh.2⟩) (fun hh => ⟨.inr hh.1, hh.2⟩), fun hh => hh.1.elim (fun h1 => .inl ⟨h1, hh.2⟩) (fun h1 => .inr ⟨h1, hh.2⟩)⟩)
  clear e1 e2 hC hK x nU oU F U
  intro i s U K3 hi hh hK3
  obtain ⟨hs, F, e1, e2, hC⟩ := hh
  have x := x4.keep F (by decide) (by decide)
  rw [hs, x.J.n]
  clear hs s
  (try simp (disch := omega) only [L_le, le_L, L_lt, lt_L, eq_L, L_eq, I_le, I_lt, I_eq, I_ni, add_L, L_add, I_add, mul_L, L_mul, I_mul, sub_L, L_sub, I_sub, div_L, rem_L])
  by_cases ei : i = 8 * V.n
  · refine brT (.inl (by omega)) ?_
    rw [ei, ← hMM] at e1 e2
    refine done U F e1 e2 (fun j hj => ?_)
    rw [hC j hj]
    exact iP_congr ⟨fun hh => hh.elim .inl (fun hh => .inr hh.2), fun hh => hh.elim .inl (fun hh => .inr ⟨by have := (mem_cls.1 hh.1).1; omega, hh⟩)⟩
  have hi' : i < 8 * V.n := by omega
  cases hbb : b with
  | false =>
    rw [hbb] at htc hcg
    refine brT (.inr rfl) ?_
    have no1 : ∀ m, cnP (fun j => j ∈ cls S.E S.M g ∧ S.tch due nw old j) m = 0 := fun m => cnP_none (fun j _ hh => absurd ((htc j hh.1).1 hh.2) (by decide))
    have no2 : ∀ m, cnP (fun j => j ∈ cls S.E S.M g ∧ S.chg due nw old j) m = 0 := fun m => cnP_none (fun j _ hh => absurd ((hcg j hh.1).1 hh.2).1 (by decide))
    refine done U F (by rw [no1] at e1 ⊢; exact e1) (by rw [no2] at e2 ⊢; exact e2) (fun j hj => ?_)
    rw [hC j hj]
    exact iP_congr ⟨fun hh => hh.elim .inl (fun hh => .inr hh.2), fun hh => hh.elim .inl (fun hh => absurd ((hcg j hh.1).1 hh.2).1 (by decide))⟩
  | true =>
    rw [hbb] at htc hcg
    refine brF (fun hh => hh.elim (fun hh => by omega) (fun hh => absurd (show (1 : Int32) = 0 from hh) (by decide))) ?_
    refine pt_isOf IS X x hi' gV gh ?_
    have l1 := cnP_le (fun j => dO S (O.take n) j ∧ S.tch due nw old j) S.M
    have l2 := cnP_le (fun j => j ∈ cls S.E S.M g ∧ S.tch due nw old j) i
    have l3 := cnP_le (fun j => dO S (O.take n) j ∧ S.chg due nw old j) S.M
    have l5 := cnP_le (fun j => j ∈ cls S.E S.M g ∧ S.chg due nw old j) i
    by_cases hc : i ∈ cls S.E S.M g
    rotate_left
    · rw [iP_neg hc]
      refine brT rfl (hK3 _ _ hi' ⟨rfl, F, ?_, ?_, fun j hj => ?_⟩)
      · rw [cnP_neg (fun hh => hc hh.1)]; exact e1
      · rw [cnP_neg (fun hh => hc hh.1)]; exact e2
      · rw [hC j hj]
        exact iP_congr ⟨fun hh => hh.elim .inl (fun hh => .inr ⟨by omega, hh.2⟩), fun hh => hh.elim .inl (fun hh => .inr ⟨by have : j ≠ i := fun ej => hc (ej ▸ hh.2.1); omega, hh.2⟩)⟩
    rw [iP_pos hc]
    refine brF (by decide) ?_
    intro U1 hU1
    have F1 : Tch [41] [254, 255] T4 U1 := by rw [hU1]; exact F.ss (by decide) _
    have Vi := S.cls_V gV hc
    have a40 : U1.a 40 i = iP (nw i) := by rw [F1.a 40 (by decide)]; exact w4 i (by omega)
    have a28 : U1.a 28 i = S.val i := by rw [F1.a 28 (by decide)]; exact v4 i Vi
    have a32 : U1.a 32 i = old i := by rw [F1.a 32 (by decide)]; exact l4 i Vi
    refine ⟨tix_I rfl (by show _ < 320; omega) (by decide), ?_⟩
    refine ⟨fun q U2 => q = iP (S.chg due nw old i) ∧ U2 = U1, ?_, ?_⟩
    · rw [a40, a28, a32]
      by_cases hnw : nw i
      · rw [iP_pos hnw]
        exact brF (by decide) ⟨by rw [iP_pos ((hcg i hc).2 ⟨rfl, .inl hnw⟩)], rfl⟩
      · rw [iP_neg hnw]
        refine brT rfl ⟨tix_I rfl (by show _ < 320; omega) (by decide), tix_I rfl (by show _ < 320; omega) (by decide), ?_⟩
        intro m hm
        refine ⟨?_, rfl⟩
        rw [hm]
        by_cases hq : S.val i = old i
        · rw [if_pos hq, iP_neg (fun hh => ((hcg i hc).1 hh).2.elim hnw (fun h9 => h9 hq))]
        · rw [if_neg hq, iP_pos ((hcg i hc).2 ⟨rfl, .inr hq⟩)]
    intro q U2 hh
    obtain ⟨hq, hU2⟩ := hh
    rw [hq, hU2, iP_nar]
    clear hq hU2 q U2
    refine ⟨tix_I rfl (by show _ < 320; omega) (by decide), ?_⟩
    intro U2 hU2
    refine ⟨tix_I rfl (by show _ < 320; omega) (by decide), ?_⟩
    have a41 : U2.a 41 = updN (U.a 41) i (iP (S.chg due nw old i)) := by rw [hU2, sa_at, hU1, ss_a]
    rw [a41, updN_same]
    intro m hm U3 hU3
    have F3 : Tch [41] [254, 255] T4 U3 := by rw [hU3, hU2]; exact (F1.sa (by decide) _ _).ss (by decide) _
    have s1 : U3.s 254 = U.s 254 + 1 := by rw [hU3, ss_s, if_neg (by decide), hU2, sa_sc, hU1, ss_s, if_pos rfl]
    have s2 : U3.s 255 = U.s 255 + m := by rw [hU3, ss_s, if_pos rfl, hU2, sa_sc, hU1, ss_s, if_neg (by decide)]
    have a3 : U3.a 41 = updN (U.a 41) i (iP (S.chg due nw old i)) := by rw [hU3, ss_a]; exact a41
    refine hK3 _ _ hi' ⟨rfl, F3, ?_, ?_, fun j hj => ?_⟩
    · rw [s1, e1, cnP_pos ⟨hc, (htc i hc).2 rfl⟩]
      (try simp (disch := omega) only [L_le, le_L, L_lt, lt_L, eq_L, L_eq, I_le, I_lt, I_eq, I_ni, add_L, L_add, I_add, mul_L, L_mul, I_mul, sub_L, L_sub, I_sub, div_L, rem_L])
      rfl
    · rw [s2, e2]
      by_cases hch : S.chg due nw old i
      · rw [iP_pos hch, if_neg (by decide)] at hm
        rw [hm, cnP_pos ⟨hc, hch⟩]
        (try simp (disch := omega) only [L_le, le_L, L_lt, lt_L, eq_L, L_eq, I_le, I_lt, I_eq, I_ni, add_L, L_add, I_add, mul_L, L_mul, I_mul, sub_L, L_sub, I_sub, div_L, rem_L])
        rfl
      · rw [iP_neg hch, if_pos rfl] at hm
        rw [hm, cnP_neg (fun hh => hch hh.2)]
        exact Int32.add_zero _
    · rw [a3]
      by_cases ej : j = i
      · rw [ej, updN_same]
        exact iP_congr ⟨fun hh => .inr ⟨by omega, hc, hh⟩, fun hh => hh.elim (fun hh => hh.2) (fun hh => hh.2.2)⟩
      · rw [updN_ne _ _ ej, hC j hj]
        exact iP_congr ⟨fun hh => hh.elim .inl (fun hh => .inr ⟨by omega, hh.2⟩), fun hh => hh.elim .inl (fun hh => .inr ⟨by omega, hh.2⟩)⟩
end
