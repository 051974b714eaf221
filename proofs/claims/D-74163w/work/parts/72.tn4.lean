/-! plain: tn4 -/
set_option maxRecDepth 100000
section
variable {G : Gv} {V : Tv} {T : TS} {gv : Nat → Int32} {S : Ist}

/-- what the twin has laid of instances. -/
def TwX (T : TS) (G : Gv) (V : Tv) (gv : Nat → Int32) (S : Ist) : Prop :=
  (TwI T G V gv) ∧
  (TwB T G V) ∧
  (NR (T.a 34) S.E) ∧
  (NR (T.a 35) (Trc S.E)) ∧
  (TwK T S)
theorem TwX.J {T : TS} {G : Gv} {V : Tv} {gv : Nat → Int32} {S : Ist} (h9 : TwX T G V gv S) : TwI T G V gv := h9.1
theorem TwX.B {T : TS} {G : Gv} {V : Tv} {gv : Nat → Int32} {S : Ist} (h9 : TwX T G V gv S) : TwB T G V := h9.2.1
theorem TwX.N {T : TS} {G : Gv} {V : Tv} {gv : Nat → Int32} {S : Ist} (h9 : TwX T G V gv S) : NR (T.a 34) S.E := h9.2.2.1
theorem TwX.M {T : TS} {G : Gv} {V : Tv} {gv : Nat → Int32} {S : Ist} (h9 : TwX T G V gv S) : NR (T.a 35) (Trc S.E) := h9.2.2.2.1
theorem TwX.K {T : TS} {G : Gv} {V : Tv} {gv : Nat → Int32} {S : Ist} (h9 : TwX T G V gv S) : TwK T S := h9.2.2.2.2

theorem TwX.keep {A L : List Nat} {U : TS} (x : TwX T G V gv S) (F : Tch A L T U) (hA : ∀ j, j ∈ [1, 19, 20, 21, 25, 26, 27, 29, 34, 35, 36] → j ∉ A) (hL : 250 ∉ L) : TwX U G V gv S := by
  refine ⟨x.J.keep F (hA _ (by decide)) (hA _ (by decide)) (hA _ (by decide)) (hA _ (by decide)) (hA _ (by decide)) hL, x.B.keep F (hA _ (by decide)) (hA _ (by decide)) (hA _ (by decide)), ?_, ?_, ?_⟩
  · rw [F.a 34 (hA _ (by decide))]; exact x.N
  · rw [F.a 35 (hA _ (by decide))]; exact x.M
  · unfold TwK
    rw [F.a 29 (hA _ (by decide))]; exact x.K

theorem Ist.trc_cls (S : Ist) {i j : Nat} (hj : j ∈ cls S.E S.M i) (h : Trc S.E i i) : Trc S.E j j :=
  (h.into (mem_cls.1 hj).2.2).trans (h.back (mem_cls.1 hj).2.1)
theorem Ist.alone (S : Ist) {i j : Nat} (hn : ¬ Trc S.E i i) (hj : j ∈ cls S.E S.M i) : j = i := by
  have hj' := mem_cls.1 hj
  rcases Rch.iff.1 hj'.2.1 with e | t
  · exact e.symm
  · rcases Rch.iff.1 hj'.2.2 with e | t'
    · exact e
    · exact absurd (t.trans t') hn

theorem TwK.eq (K : TwK T S) (hM : S.M ≤ 320) {i j : Nat} (hi : S.V i) (ht : Trc S.E i i) (hj : j < 320) : T.a 29 j = I (S.hd i) ↔ j ∈ cls S.E S.M i := by
  have hhi := S.hV _ (S.cls_V hi (S.hd_mem hi))
  constructor
  · intro e
    by_cases hc : S.V j ∧ Trc S.E j j
    · rw [(K j hj).1 hc] at e
      have hhj := S.hV _ (S.cls_V hc.1 (S.hd_mem hc.1))
      exact (S.hd_iff hi hc.1).1 ((I_eq (by omega) (by omega)).1 e)
    · rw [(K j hj).2 hc] at e
      exact absurd e.symm (I_neg1_ne (by omega))
  · intro hc
    rw [(K j hj).1 ⟨S.cls_V hi hc, S.trc_cls hc ht⟩, S.hd_cls hi hc]

theorem pt_isReady (IS : IsI S G V gv) (X : V.WF G) (x : TwX T G V gv S) {D : Nat → Prop} (hD : ∀ j, j < 320 → T.a 38 j = iP (D j)) {i : Nat} (hi : S.V i) {Q : Int32 → TS → Prop} (h : Q (iP (∀ j, S.E i j → D j ∨ j ∈ cls S.E S.M i)) T) : wp_X1_isReady (I i) T Q := by
  have h40 := X.n40
  have hMM := IS.mm
  have hlt := S.hV i hi
  unfold wp_X1_isReady
  refine tlp_cnt (8 * V.n) (fun k s U => s = I k ∧ U = T ∧ ∀ j, j < k → S.E i j → D j ∨ j ∈ cls S.E S.M i) ⟨rfl, rfl, fun j hj => by omega⟩ ?_
  intro k s U K hk hh hK
  obtain ⟨hs, hU, hf⟩ := hh
  rw [hs, hU, x.J.n]
  clear hs hU s U
  (try simp (disch := omega) only [L_le, le_L, L_lt, lt_L, eq_L, L_eq, I_le, I_lt, I_eq, I_ni, add_L, L_add, I_add, mul_L, L_mul, I_mul, sub_L, L_sub, I_sub, div_L, rem_L])
  by_cases e : k = 8 * V.n
  · refine brT (by omega) ?_
    rw [iP_pos (fun j hj => hf j (by have := S.hV _ (S.hE _ _ hj).2; omega) hj)] at h
    exact h
  have hk' : k < 8 * V.n := by omega
  refine brF (by omega) ?_
  refine pt_bit (.inl rfl) (by omega) (by omega) ?_
  have hb := x.N i k (by omega) (by omega)
  have hgo : (S.E i k → D k ∨ k ∈ cls S.E S.M i) → K (I (k + 1)) T := fun hk2 => hK _ _ hk' ⟨rfl, rfl, fun j hj he => by
    by_cases ej : j = k
    · subst ej; exact hk2 he
    · exact hf j (by omega) he⟩
  by_cases hE : S.E i k
  rotate_left
  · rw [if_neg (fun hh => hE (hb.1 hh))]
    exact brT rfl (hgo (fun hh => absurd hh hE))
  rw [if_pos (hb.2 hE)]
  refine brF (by decide) ⟨tix_I rfl (by show _ < 320; omega) (by decide), ?_⟩
  rw [hD k (by omega)]
  by_cases hd : D k
  · rw [iP_pos hd]
    exact brF (by decide) (hgo (fun _ => .inl hd))
  rw [iP_neg hd]
  refine brT rfl ⟨tix_I rfl (by show _ < 320; omega) (by decide), ?_⟩
  have hno : ¬ k ∈ cls S.E S.M i → Q 0 T := fun hn => by
    rw [iP_neg (fun hh => (hh k hE).elim hd hn)] at h
    exact h
  by_cases ht : Trc S.E i i
  · have e29 := (x.K i (by omega)).1 ⟨hi, ht⟩
    have hhi := S.hV _ (S.cls_V hi (S.hd_mem hi))
    rw [e29]
    refine brF (I_neg1_ne (by omega)) ⟨tix_I rfl (by show _ < 320; omega) (by decide), tix_I rfl (by show _ < 320; omega) (by decide), ?_⟩
    by_cases hc : k ∈ cls S.E S.M i
    · exact brT ((x.K.eq (by omega) hi ht (by omega)).2 hc) (hgo (fun _ => .inr hc))
    · exact brF (fun hh => hc ((x.K.eq (by omega) hi ht (by omega)).1 hh)) (hno hc)
  · rw [(x.K i (by omega)).2 (fun hh => ht hh.2)]
    exact brT rfl (hno (fun hc => ht ⟨k, hE, (mem_cls.1 hc).2.2⟩))

theorem pt_isKnotReady (IS : IsI S G V gv) (X : V.WF G) (x : TwX T G V gv S) {D : Nat → Prop} (hD : ∀ j, j < 320 → T.a 38 j = iP (D j)) {i : Nat} (hi : S.V i) (ht : Trc S.E i i) (hh0 : S.hd i = i) {Q : Int32 → TS → Prop} (h : Q (iP (∀ j y, j ∈ cls S.E S.M i → S.E j y → D y ∨ y ∈ cls S.E S.M i)) T) : wp_X1_isKnotReady (I i) T Q := by
  have h40 := X.n40
  have hMM := IS.mm
  have hlt := S.hV i hi
  unfold wp_X1_isKnotReady
  refine tlp_cnt (8 * V.n) (fun k s U => s = I k ∧ U = T ∧ ∀ j y, j < k → j ∈ cls S.E S.M i → S.E j y → D y ∨ y ∈ cls S.E S.M i) ⟨rfl, rfl, fun j y hj => by omega⟩ ?_
  intro k s U K hk hh hK
  obtain ⟨hs, hU, hf⟩ := hh
  rw [hs, hU, x.J.n]
  clear hs hU s U
  (try simp (disch := omega) only [L_le, le_L, L_lt, lt_L, eq_L, L_eq, I_le, I_lt, I_eq, I_ni, add_L, L_add, I_add, mul_L, L_mul, I_mul, sub_L, L_sub, I_sub, div_L, rem_L])
  by_cases e : k = 8 * V.n
  · refine brT (by omega) ?_
    rw [iP_pos (fun j y hj => hf j y (by have := (mem_cls.1 hj).1; omega) hj)] at h
    exact h
  have hk' : k < 8 * V.n := by omega
  refine brF (by omega) ⟨tix_I rfl (by show _ < 320; omega) (by decide), ?_⟩
  have hgo : (k ∈ cls S.E S.M i → ∀ y, S.E k y → D y ∨ y ∈ cls S.E S.M i) → K (I (k + 1)) T := fun hk2 => hK _ _ hk' ⟨rfl, rfl, fun j y hj hc he => by
    by_cases ej : j = k
    · subst ej; exact hk2 hc y he
    · exact hf j y (by omega) hc he⟩
  rw [x.B.th k (by omega)]
  by_cases hV : S.V k
  rotate_left
  · rw [iP_neg (fun hh => hV ((IS.vv k).2 hh))]
    exact brT rfl (hgo (fun hh => absurd (S.cls_V hi hh) hV))
  rw [iP_pos ((IS.vv k).1 hV)]
  refine brF (by decide) ⟨tix_I rfl (by show _ < 320; omega) (by decide), ?_⟩
  have hq := x.K.eq (by omega) hi ht (show k < 320 by omega)
  rw [hh0] at hq
  by_cases hc : k ∈ cls S.E S.M i
  rotate_left
  · exact brF (fun hh => hc (hq.1 hh)) (hgo (fun hh => absurd hh hc))
  refine brT (hq.2 hc) ?_
  have ec := cls_eq (M := S.M) (mem_cls.1 hc).2.1 (mem_cls.1 hc).2.2
  refine pt_isReady IS X x hD hV ?_
  rw [← ec]
  by_cases hr : ∀ j, S.E k j → D j ∨ j ∈ cls S.E S.M i
  · rw [iP_pos hr]
    exact brF (by decide) (hgo (fun _ => hr))
  · rw [iP_neg hr]
    refine brT rfl ?_
    rw [iP_neg (fun hh => hr (fun y hy => hh k y hc hy))] at h
    exact h

/-- those below m that are so. -/
noncomputable def flt (P : Nat → Prop) (m : Nat) : List Nat := (List.range m).filter (fun j => @decide (P j) (Classical.propDecidable _))
theorem mem_flt {P : Nat → Prop} {m j : Nat} : j ∈ flt P m ↔ j < m ∧ P j := by simp [flt, List.mem_filter]
theorem flt_pos {P : Nat → Prop} {m : Nat} (h : P m) : flt P (m + 1) = flt P m ++ [m] := by
  unfold flt
  rw [List.range_succ, List.filter_append]
  simp [h]
theorem flt_neg {P : Nat → Prop} {m : Nat} (h : ¬ P m) : flt P (m + 1) = flt P m := by
  unfold flt
  rw [List.range_succ, List.filter_append]
  simp [h]
theorem flt_zero (P : Nat → Prop) : flt P 0 = [] := rfl
theorem zero_pos {P : Nat → Prop} {m : Nat} (h : P m) (v : Vl) : updN (zeroT (flt P m) v) m 0 = zeroT (flt P (m + 1)) v := by
  funext x
  unfold zeroT updN
  by_cases e : x = m
  · rw [if_pos e, if_pos (mem_flt.2 ⟨by omega, e ▸ h⟩)]
  · rw [if_neg e]
    show (if x ∈ flt P m then 0 else v x) = _
    by_cases hx : x ∈ flt P m
    · rw [if_pos hx, if_pos (mem_flt.2 ⟨by have := (mem_flt.1 hx).1; omega, (mem_flt.1 hx).2⟩)]
    · rw [if_neg hx, if_neg (fun hh => hx (mem_flt.2 ⟨by have := (mem_flt.1 hh).1; omega, (mem_flt.1 hh).2⟩))]
theorem turn_pos {F : Nat → Vl → Int32} {P : Nat → Prop} {m : Nat} (h : P m) (v : Vl) : turnT F (flt P (m + 1)) v = stepT F (turnT F (flt P m) v) m := by
  unfold turnT
  rw [flt_pos h, List.foldl_append]
  rfl

theorem zeroT_nil (v : Vl) : zeroT [] v = v := by
  funext x
  unfold zeroT
  rw [if_neg (by simp)]

theorem pt_turnsKnot (W : G.WF) (P : V.PO G) (R : G.RL) (IS : IsI S G V gv) (X : V.WF G) (x : TwX T G V gv S) {i : Nat} (hi : S.V i) (ht : Trc S.E i i) (hh0 : S.hd i = i) {Q : TS → Prop}
    (h : ∀ U, Tch [28, 30, 37, 38, 42] [] T U → U.a 28 = (knotT S.F (cls S.E S.M i) (T.a 28)).1 → (∀ j, j ∈ cls S.E S.M i → U.a 30 j = I (knotT S.F (cls S.E S.M i) (T.a 28)).2.1 ∧ U.a 37 j = (if (knotT S.F (cls S.E S.M i) (T.a 28)).2.2 then 1 else 0) ∧ U.a 38 j = 1) → (∀ j, j ∉ cls S.E S.M i → U.a 30 j = T.a 30 j ∧ U.a 37 j = T.a 37 j ∧ U.a 38 j = T.a 38 j) → Q U) : wp_X1_turnsKnot (I i) T Q := by
  have h40 := X.n40
  have hMM := IS.mm
  have hlt := S.hV i hi
  obtain ⟨C, hC⟩ : ∃ C : Nat → Prop, cls S.E S.M i = flt C S.M := ⟨_, rfl⟩
  have hin : ∀ j, j < 8 * V.n → (C j ↔ j ∈ cls S.E S.M i) := fun j hj => by
    rw [hC, mem_flt]
    exact ⟨fun hh => ⟨by omega, hh⟩, fun hh => hh.2⟩
  -- how a member is known
  have hmb : ∀ (U : TS) (A : List Nat), Tch A [] T U → 36 ∉ A → 29 ∉ A → ∀ j, j < 8 * V.n → ∀ (p q : Prop), (C j → p) → (¬ C j → q) → (tix 36 42 (I j) ∧ ((U.a 36 j = 0 → q) ∧ (¬ U.a 36 j = 0 → tix 29 40 (I j) ∧ ((U.a 29 j = I i → p) ∧ (¬ U.a 29 j = I i → q))))) := by
    intro U A F h36 h29 j hj p q hp hq
    refine ⟨tix_I rfl (by show _ < 320; omega) (by decide), ?_⟩
    rw [F.a 36 h36, F.a 29 h29, x.B.th j (by omega)]
    have hq2 := x.K.eq (by omega) hi ht (show j < 320 by omega)
    rw [hh0] at hq2
    by_cases hV : S.V j
    · rw [iP_pos ((IS.vv j).1 hV)]
      refine brF (by decide) ⟨tix_I rfl (by show _ < 320; omega) (by decide), ?_⟩
      by_cases hc : j ∈ cls S.E S.M i
      · exact brT (hq2.2 hc) (hp ((hin j hj).2 hc))
      · exact brF (fun hh => hc (hq2.1 hh)) (hq (fun hh => hc ((hin j hj).1 hh)))
    · rw [iP_neg (fun hh => hV ((IS.vv j).2 hh))]
      exact brT rfl (hq (fun hh => hV (S.cls_V hi ((hin j hj).1 hh))))
  rw [hC] at h
  unfold wp_X1_turnsKnot
  refine tlp_cnt (8 * V.n) (fun k s U => s = I k ∧ Tch [28, 42] [] T U ∧ U.a 28 = zeroT (flt C k) (T.a 28)) ⟨rfl, Tch.refl T, by rw [flt_zero, zeroT_nil]⟩ ?_
  intro k s U K hk hh hK
  obtain ⟨hs, F, hv⟩ := hh
  have nU : U.s 250 = I V.n := by rw [F.s 250 (by decide)]; exact x.J.n
  rw [hs, nU]
  clear hs s
  (try simp (disch := omega) only [L_le, le_L, L_lt, lt_L, eq_L, L_eq, I_le, I_lt, I_eq, I_ni, add_L, L_add, I_add, mul_L, L_mul, I_mul, sub_L, L_sub, I_sub, div_L, rem_L])
  by_cases e : k = 8 * V.n
  rotate_left
  · have hk' : k < 8 * V.n := by omega
    refine brF (by omega) ?_
    refine hmb U _ F (by decide) (by decide) k hk' _ _ (fun hc => ⟨tix_I rfl (by show _ < 320; omega) (by decide), ?_⟩) (fun hc => ?_)
    · intro U1 hU1
      refine hK _ _ hk' ⟨rfl, by rw [hU1]; exact F.sa (by decide) _ _, ?_⟩
      rw [hU1, sa_at, hv, zero_pos hc]
    · exact hK _ _ hk' ⟨rfl, F, by rw [hv, flt_neg hc]⟩
  refine brT (by omega) ?_
  rw [e, ← hMM] at hv
  clear hK K hk e k
  -- turns
  refine tlp_cnt 64 (fun n s U => ∃ b : Bool, s = (I n, if b then 1 else 0) ∧ Tch [28, 42] [] T U ∧ runT S.F (flt C S.M) (64 - n) n (U.a 28, b) = knotT S.F (flt C S.M) (T.a 28)) ⟨true, rfl, F, by rw [hv]; rfl⟩ ?_
  clear hv nU F U
  intro n s U K hn hh hK
  obtain ⟨b, hs, F, hr⟩ := hh
  rw [hs]
  clear hs s
  by_cases hend : b = false ∨ 64 - n = 0
  · rw [runT_end hend] at hr
    have hcond : ((if b = true then (1 : Int32) else 0) = 0) ∨ ((64 : Int32) ≤ I n) := by
      rcases hend with hb | hb
      · left; rw [hb]; rfl
      · right
        rw [L_le 64 (by decide) (by omega)]
        show 64 ≤ n
        omega
    refine brT hcond ?_
    have r1 : U.a 28 = (knotT S.F (flt C S.M) (T.a 28)).1 := by rw [← hr]
    have r2 : (knotT S.F (flt C S.M) (T.a 28)).2.1 = n := by rw [← hr]
    have r3 : (knotT S.F (flt C S.M) (T.a 28)).2.2 = b := by rw [← hr]
    rw [r2, r3] at h
    refine tlp_cnt (8 * V.n) (fun k s U2 => s = I k ∧ Tch [28, 30, 37, 38, 42] [] T U2 ∧ U2.a 28 = U.a 28 ∧ (∀ j, j < k → C j → U2.a 30 j = I n ∧ U2.a 37 j = (if b then 1 else 0) ∧ U2.a 38 j = 1) ∧ (∀ j, ¬ (j < k ∧ C j) → U2.a 30 j = T.a 30 j ∧ U2.a 37 j = T.a 37 j ∧ U2.a 38 j = T.a 38 j)) ⟨rfl, F.mono (by decide) (by decide), rfl, fun j hj => by omega, fun j _ => ⟨by rw [F.a 30 (by decide)], by rw [F.a 37 (by decide)], by rw [F.a 38 (by decide)]⟩⟩ ?_
    clear hK K hend hcond hr
    intro k s U2 K2 hk hh hK2
    obtain ⟨hs, F2, v2, m1, m2⟩ := hh
    have nU : U2.s 250 = I V.n := by rw [F2.s 250 (by decide)]; exact x.J.n
    rw [hs, nU]
    clear hs s
    (try simp (disch := omega) only [L_le, le_L, L_lt, lt_L, eq_L, L_eq, I_le, I_lt, I_eq, I_ni, add_L, L_add, I_add, mul_L, L_mul, I_mul, sub_L, L_sub, I_sub, div_L, rem_L])
    by_cases e : k = 8 * V.n
    · refine brT (by omega) (h U2 F2 (v2.trans r1) (fun j hj => ?_) (fun j hj => ?_))
      · have := mem_flt.1 hj
        exact m1 j (by omega) this.2
      · exact m2 j (fun hh => hj (mem_flt.2 ⟨by omega, hh.2⟩))
    have hk' : k < 8 * V.n := by omega
    refine brF (by omega) ?_
    refine hmb U2 _ F2 (by decide) (by decide) k hk' _ _ (fun hc => ⟨tix_I rfl (by show _ < 320; omega) (by decide), ?_⟩) (fun hc => ?_)
    · intro U3 hU3
      refine ⟨tix_I rfl (by show _ < 320; omega) (by decide), ?_⟩
      intro U4 hU4
      refine ⟨tix_I rfl (by show _ < 320; omega) (by decide), ?_⟩
      intro U5 hU5
      have e1 : vp_nar .boolean (if b = true then (1 : Int32) else 0) = (if b = true then 1 else 0) := by cases b <;> rfl
      rw [e1] at hU4
      have a30 : U5.a 30 = updN (U2.a 30) k (I n) := by rw [hU5, sa_off _ (by decide), hU4, sa_off _ (by decide), hU3, sa_at]
      have a37 : U5.a 37 = updN (U2.a 37) k (if b = true then 1 else 0) := by rw [hU5, sa_off _ (by decide), hU4, sa_at, hU3, sa_off _ (by decide)]
      have a38 : U5.a 38 = updN (U2.a 38) k 1 := by rw [hU5, sa_at, hU4, sa_off _ (by decide), hU3, sa_off _ (by decide)]; rfl
      have a28 : U5.a 28 = U2.a 28 := by rw [hU5, sa_off _ (by decide), hU4, sa_off _ (by decide), hU3, sa_off _ (by decide)]
      refine hK2 _ _ hk' ⟨rfl, by rw [hU5, hU4, hU3]; exact ((F2.sa (by decide) _ _).sa (by decide) _ _).sa (by decide) _ _, a28.trans v2, fun j hj hcj => ?_, fun j hj => ?_⟩
      · rw [a30, a37, a38]
        by_cases ej : j = k
        · rw [ej, updN_same, updN_same, updN_same]; exact ⟨rfl, rfl, rfl⟩
        · rw [updN_ne _ _ ej, updN_ne _ _ ej, updN_ne _ _ ej]; exact m1 j (by omega) hcj
      · have ej : j ≠ k := fun ej => hj ⟨by omega, ej ▸ hc⟩
        rw [a30, a37, a38, updN_ne _ _ ej, updN_ne _ _ ej, updN_ne _ _ ej]
        exact m2 j (fun hh => hj ⟨by omega, hh.2⟩)
    · refine hK2 _ _ hk' ⟨rfl, F2, v2, fun j hj hcj => m1 j (by have : j ≠ k := fun ej => hc (ej ▸ hcj); omega) hcj, fun j hj => m2 j (fun hh => hj ⟨by omega, hh.2⟩)⟩
  have hb : b = true := by
    cases b with
    | true => rfl
    | false => exact absurd (.inl rfl) hend
  have hn' : n < 64 := by
    have : ¬ 64 - n = 0 := fun hh => hend (.inr hh)
    omega
  subst hb
  have hcond : ¬ (((if true = true then (1 : Int32) else 0) = 0) ∨ ((64 : Int32) ≤ I n)) := by
    rintro (hh | hh)
    · exact absurd (show (1 : Int32) = 0 from hh) (by decide)
    · rw [L_le 64 (by decide) (by omega)] at hh
      have : 64 ≤ n := hh
      omega
  refine brF hcond ?_
  have hr' : runT S.F (flt C S.M) (64 - (n + 1)) (n + 1) (turnT S.F (flt C S.M) (U.a 28)) = knotT S.F (flt C S.M) (T.a 28) := by
    rw [← hr, show 64 - n = (64 - (n + 1)) + 1 by omega]
    rfl
  clear hr hend hcond
  refine tlp_cnt (8 * V.n) (fun k s U2 => Tch [28, 42] [] T U2 ∧ ∃ b : Bool, s = (if b then 1 else 0, I k) ∧ (U2.a 28, b) = turnT S.F (flt C k) (U.a 28)) ⟨F, false, rfl, rfl⟩ ?_
  intro k s U2 K2 hk hh hK2
  obtain ⟨F2, b, hs, hv⟩ := hh
  have nU : U2.s 250 = I V.n := by rw [F2.s 250 (by decide)]; exact x.J.n
  rw [hs, nU]
  clear hs s
  (try simp (disch := omega) only [L_le, le_L, L_lt, lt_L, eq_L, L_eq, I_le, I_lt, I_eq, I_ni, add_L, L_add, I_add, mul_L, L_mul, I_mul, sub_L, L_sub, I_sub, div_L, rem_L])
  by_cases e : k = 8 * V.n
  · refine brT (by omega) ?_
    rw [e, ← hMM] at hv
    exact hK _ _ hn' ⟨b, rfl, F2, by rw [hv]; exact hr'⟩
  have hk' : k < 8 * V.n := by omega
  refine brF (by omega) ?_
  refine hmb U2 _ F2 (by decide) (by decide) k hk' _ _ (fun hc => ?_) (fun hc => ?_)
  · have x2 := x.keep F2 (by decide) (by decide)
    have hVk : V.is G k := (IS.vv k).1 (S.cls_V hi ((hin k hk').1 hc))
    refine pt_worked W X P R x2.J x2.B hVk ?_
    intro U3 F3
    have v3 : U3.a 28 = U2.a 28 := F3.a 28 (by decide)
    have F23 : Tch [28, 42] [] T U3 := F2.trans (F3.mono (by decide) (by decide))
    have hst := turn_pos (F := S.F) hc (U.a 28)
    rw [← hv] at hst
    have hst' : turnT S.F (flt C (k + 1)) (U.a 28) = (updN (U2.a 28) k (V.mk G gv k (U2.a 28)), b || decide (V.mk G gv k (U2.a 28) ≠ U2.a 28 k)) := by
      rw [hst, IS.ff]; rfl
    cases b with
    | false =>
      refine brT rfl ⟨tix_I rfl (by show _ < 320; omega) (by decide), ?_⟩
      intro m hm
      refine ⟨tix_I rfl (by show _ < 320; omega) (by decide), ?_⟩
      intro U4 hU4
      rw [v3] at hm
      have a28 : U4.a 28 = updN (U2.a 28) k (V.mk G gv k (U2.a 28)) := by rw [hU4, sa_at, v3]
      refine hK2 _ _ hk' ⟨by rw [hU4]; exact F23.sa (by decide) _ _, decide (V.mk G gv k (U2.a 28) ≠ U2.a 28 k), ?_, ?_⟩
      · rw [hm]
        by_cases hq : V.mk G gv k (U2.a 28) = U2.a 28 k
        · rw [if_pos hq, if_neg (by simp [hq])]
        · rw [if_neg hq, if_pos (by simp [hq])]
      · rw [hst', a28]
        rfl
    | true =>
      refine brF (fun hh => absurd (show (1 : Int32) = 0 from hh) (by decide)) ⟨tix_I rfl (by show _ < 320; omega) (by decide), ?_⟩
      intro U4 hU4
      have a28 : U4.a 28 = updN (U2.a 28) k (V.mk G gv k (U2.a 28)) := by rw [hU4, sa_at, v3]
      refine hK2 _ _ hk' ⟨by rw [hU4]; exact F23.sa (by decide) _ _, true, rfl, ?_⟩
      rw [hst', a28]
      rfl
  · refine hK2 _ _ hk' ⟨F2, b, rfl, by rw [hv, flt_neg hc]⟩
end
