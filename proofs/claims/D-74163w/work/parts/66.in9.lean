/-! plain: cnc dv -/
set_option maxRecDepth 100000
section
variable {G : Gv} {T : Tv} {L : GA} {A : TA} {x o : Nat} {B : IA} {tu un ga : Nat} {s : TjS} {gv : Nat → Int32}

/-- knots below k are right. -/
def KnV (S : Ist) (s : TjS) (v : Vl) (t u : Nat → Int32) (k : Nat) : Prop :=
  (∀ i j, s.kn i = some j → j < k → v i = S.val i) ∧
  (∀ i j, s.kn i = some j → j < k → s.kt j = true → t j = I (S.tn i) ∧ u j = (if S.us i then 1 else 0))
theorem KnV.a {S : Ist} {s : TjS} {v : Vl} {t u : Nat → Int32} {k : Nat} (h9 : KnV S s v t u k) : ∀ i j, s.kn i = some j → j < k → v i = S.val i := h9.1
theorem KnV.b {S : Ist} {s : TjS} {v : Vl} {t u : Nat → Int32} {k : Nat} (h9 : KnV S s v t u k) : ∀ i j, s.kn i = some j → j < k → s.kt j = true → t j = I (S.tn i) ∧ u j = (if S.us i then 1 else 0) := h9.2

theorem KnF.out (W : G.WF) (X : T.WF G) (RL : G.RL) (F : KnF (T.is G) (T.ed G) s) {i j y k : Nat} (hi : T.is G i) (hk : s.kn i = some k) (hj : j ∈ cls (T.ist G gv W X RL).E (T.ist G gv W X RL).M i) (e : (T.ist G gv W X RL).E j y) (hy : y ∉ cls (T.ist G gv W X RL).E (T.ist G gv W X RL).M i) : ∃ k', k' < k ∧ s.kn y = some k' := by
  have hc : cls (T.ist G gv W X RL).E (T.ist G gv W X RL).M i = mem s k (8 * T.n) := F.cl W X hi hk
  rw [hc] at hj hy
  have e1 : T.ed G j y := e
  obtain ⟨k', h1, h2⟩ := F.t j y k (mem_mem.1 hj).2 e1
  refine ⟨k', Nat.lt_of_le_of_ne h1 (fun e2 => ?_), h2⟩
  subst e2
  exact hy (mem_mem.2 ⟨X.isLt (F.lt h2).1, h2⟩)

theorem KnF.kt_iff (W : G.WF) (X : T.WF G) (RL : G.RL) (F : KnF (T.is G) (T.ed G) s) {i k : Nat} (hk : s.kn i = some k) : s.kt k = true ↔ Trc (T.ist G gv W X RL).E i i := F.f i k hk

theorem KnV.one (W : G.WF) (X : T.WF G) (RL : G.RL) (F : KnF (T.is G) (T.ed G) s) {v : Vl} {t u : Nat → Int32} {k i : Nat} (V : KnV (T.ist G gv W X RL) s v t u k) (hi : T.is G i) (hk : s.kn i = some k) (hkt : s.kt k = false) :
    KnV (T.ist G gv W X RL) s (updN v i (T.mk G gv i v)) t u (k + 1) := by
  have hn : ¬ Trc (T.ist G gv W X RL).E i i := fun hh => by rw [(F.kt_iff W X RL hk).2 hh] at hkt; exact absurd hkt (by simp)
  have one : ∀ j, s.kn j = some k → j = i := by
    intro j hj
    have hj' := (F.lt hj).1
    have hr := (F.d j i hj' hi).1 (hj.trans hk.symm)
    rcases hr.1.cas with e | ⟨c, e, r⟩
    · exact e
    · rcases hr.2.cas with e' | ⟨c', e', r'⟩
      · exact e'.symm
      · exact absurd ⟨c', e', r'.trans hr.1⟩ hn
  have key := ((T.ist G gv W X RL).sol.re (i := i) hi (u := v) (fun j y hj e hy => by
    obtain ⟨k', h1, h2⟩ := F.out W X RL hi hk hj e hy
    exact V.a y k' h2 h1)).2 hn
  refine ⟨fun j l hl hlt => ?_, fun j l hl hlt hktl => ?_⟩
  · by_cases e : j = i
    · subst e
      rw [updN_same]
      exact key
    · rw [updN_ne _ _ e]
      refine V.a j l hl (Nat.lt_of_le_of_ne (by omega) (fun e2 => ?_))
      subst e2
      exact e (one j hl)
  · refine V.b j l hl (Nat.lt_of_le_of_ne (by omega) (fun e2 => ?_)) hktl
    subst e2
    rw [hkt] at hktl
    exact absurd hktl (by simp)

theorem KnV.many (W : G.WF) (X : T.WF G) (RL : G.RL) (F : KnF (T.is G) (T.ed G) s) {v : Vl} {t u : Nat → Int32} {k : Nat} (V : KnV (T.ist G gv W X RL) s v t u k) (hkt : s.kt k = true) :
    KnV (T.ist G gv W X RL) s (knotT (T.mk G gv) (mem s k (8 * T.n)) v).1 (updN t k (I (knotT (T.mk G gv) (mem s k (8 * T.n)) v).2.1)) (updN u k (if (knotT (T.mk G gv) (mem s k (8 * T.n)) v).2.2 then 1 else 0)) (k + 1) := by
  have key : ∀ i, s.kn i = some k → (∀ j, j ∈ mem s k (8 * T.n) → (knotT (T.mk G gv) (mem s k (8 * T.n)) v).1 j = (T.ist G gv W X RL).val j) ∧ (knotT (T.mk G gv) (mem s k (8 * T.n)) v).2 = ((T.ist G gv W X RL).tn i, (T.ist G gv W X RL).us i) := by
    intro i hk
    have hi := (F.lt hk).1
    have hc : cls (T.ist G gv W X RL).E (T.ist G gv W X RL).M i = mem s k (8 * T.n) := F.cl W X hi hk
    have := ((T.ist G gv W X RL).sol.re (i := i) hi (u := v) (fun j y hj e hy => by
      obtain ⟨k', h1, h2⟩ := F.out W X RL hi hk hj e hy
      exact V.a y k' h2 h1)).1 ((F.kt_iff W X RL hk).1 hkt)
    rw [hc] at this
    exact this
  refine ⟨fun j l hl hlt => ?_, fun j l hl hlt hktl => ?_⟩
  · by_cases e : l = k
    · subst e
      exact (key j hl).1 j (mem_mem.2 ⟨X.isLt (F.lt hl).1, hl⟩)
    · rw [knot_out (fun hh => e (Option.some.inj (hl.symm.trans (mem_mem.1 hh).2)))]
      exact V.a j l hl (by omega)
  · by_cases e : l = k
    · subst e
      rw [updN_same, updN_same, (key j hl).2]
      exact ⟨rfl, rfl⟩
    · rw [updN_ne _ _ e, updN_ne _ _ e]
      exact V.b j l hl (by omega) hktl

theorem px_reckonsAll (W : G.WF) (X : T.WF G) (RL : G.RL) (D : VaD A T) {c0 : HC} (K0 : RkB c0 L A G T x o B tu un s ga gv) {h : AH} (F : Fr (WK A T tu un) c0 h.c) {v : Vl} (V : VaR h.c A T v) {Q : AH → Prop}
    (hQ : ∀ h' v', Fr (WK A T tu un) c0 h'.c → VaR h'.c A T v' → KnV (T.ist G gv W X RL) s v' (h'.ai tu) (h'.ai un) s.kts → h'.rc = h.rc → h'.rs = h.rs → Q h') : wp_X17_reckonsAll o h Q := by
  have h320 := K0.I.F.n
  unfold wp_X17_reckonsAll
  refine xlp_cnt s.kts (fun k q U => q = I k ∧ ∃ w, Fr (WK A T tu un) c0 U.c ∧ VaR U.c A T w ∧ KnV (T.ist G gv W X RL) s w (U.ai tu) (U.ai un) k ∧ U.rc = h.rc ∧ U.rs = h.rs) ⟨rfl, v, F, V, ⟨fun _ _ _ hl => absurd hl (Nat.not_lt_zero _), fun _ _ _ hl => absurd hl (Nat.not_lt_zero _)⟩, rfl, rfl⟩ ?_
  rintro k _ U K hk ⟨rfl, w, FU, VU, NU, cU, sU⟩ hK
  have KU := K0.keep FU
  have n7 : U.fi 1707 o = I s.kts := KU.I.R.n1
  refine ⟨nn_of rfl KU.I.K.J.k, ?_⟩
  rw [n7]
  by_cases e : k = s.kts
  · subst e
    exact brT (by (first | omega | ((try simp (disch := omega) only [L_le, le_L, L_lt, lt_L, eq_L, L_eq, I_le, I_lt, I_eq, I_ni, add_L, L_add, I_add, mul_L, L_mul, I_mul, sub_L, L_sub, I_sub, div_L, rem_L]); done) | ((try simp (disch := omega) only [L_le, le_L, L_lt, lt_L, eq_L, L_eq, I_le, I_lt, I_eq, I_ni, add_L, L_add, I_add, mul_L, L_mul, I_mul, sub_L, L_sub, I_sub, div_L, rem_L]); omega))) (hQ U w FU VU NU cU sU)
  have hk' : k < s.kts := by omega
  refine brF (by (first | omega | ((try simp (disch := omega) only [L_le, le_L, L_lt, lt_L, eq_L, L_eq, I_le, I_lt, I_eq, I_ni, add_L, L_add, I_add, mul_L, L_mul, I_mul, sub_L, L_sub, I_sub, div_L, rem_L]); done) | ((try simp (disch := omega) only [L_le, le_L, L_lt, lt_L, eq_L, L_eq, I_le, I_lt, I_eq, I_ni, add_L, L_add, I_add, mul_L, L_mul, I_mul, sub_L, L_sub, I_sub, div_L, rem_L]); omega))) ?_
  refine px_reckons (h := U.srm 0 0) W X RL D K0 FU VU hk' ?_ ?_
  · intro hkt i hi hki h' Z
    rintro _ rfl
    (try simp (disch := omega) only [L_le, le_L, L_lt, lt_L, eq_L, L_eq, I_le, I_lt, I_eq, I_ni, add_L, L_add, I_add, mul_L, L_mul, I_mul, sub_L, L_sub, I_sub, div_L, rem_L])
    have t1 : h'.ai tu = U.ai tu := Z.ti
    have t2 : h'.ai un = U.ai un := Z.ui
    refine hK _ _ hk' ⟨rfl, _, Z.F, Z.V, ?_, cU, sU⟩
    show KnV _ _ _ (h'.ai tu) (h'.ai un) _
    rw [t1, t2]
    exact NU.one W X RL K0.I.F hi hki hkt
  · intro hkt h' F' V' t1 t2 _ _
    rintro _ rfl
    (try simp (disch := omega) only [L_le, le_L, L_lt, lt_L, eq_L, L_eq, I_le, I_lt, I_eq, I_ni, add_L, L_add, I_add, mul_L, L_mul, I_mul, sub_L, L_sub, I_sub, div_L, rem_L])
    refine hK _ _ hk' ⟨rfl, _, F', V', ?_, cU, sU⟩
    show KnV _ _ _ (h'.ai tu) (h'.ai un) _
    rw [t1, t2]
    exact NU.many W X RL K0.I.F hkt
end
section
/-- which change: due ones, new ones, what values were. -/
noncomputable def Ist.chgF (S : Ist) (due nw : Nat → Prop) (old : Vl) : Nat → Nat → Prop
  | 0, _ => False
  | n + 1, i => (∃ j, j ∈ cls S.E S.M i ∧ (due j ∨ ∃ y, S.E j y ∧ y ∉ cls S.E S.M i ∧ S.chgF due nw old n y)) ∧ (nw i ∨ S.val i ≠ old i)
noncomputable def Ist.chg (S : Ist) (due nw : Nat → Prop) (old : Vl) (i : Nat) : Prop := S.chgF due nw old (S.rk i + 1) i
noncomputable def Ist.tch (S : Ist) (due nw : Nat → Prop) (old : Vl) (i : Nat) : Prop := ∃ j, j ∈ cls S.E S.M i ∧ (due j ∨ ∃ y, S.E j y ∧ y ∉ cls S.E S.M i ∧ S.chg due nw old y)

variable {S : Ist} {due nw : Nat → Prop} {old : Vl}

theorem Ist.out_rk (S : Ist) {i j y : Nat} (hi : S.V i) (hj : j ∈ cls S.E S.M i) (e : S.E j y) (hy : y ∉ cls S.E S.M i) : S.rk y < S.rk i := by
  have hj' := mem_cls.1 hj
  have hr : Rch S.E i y := hj'.2.1.trans (Rch.one e)
  exact S.rk_lt hi hr (fun r => hy (mem_cls.2 ⟨S.hV y (S.hE _ _ e).2, hr, r⟩))

theorem Ist.chgF_eq (S : Ist) (due nw : Nat → Prop) (old : Vl) : ∀ (n m i : Nat), S.V i → S.rk i < n → S.rk i < m → (S.chgF due nw old n i ↔ S.chgF due nw old m i)
  | 0, _, _, _, h, _ => absurd h (Nat.not_lt_zero _)
  | _ + 1, 0, _, _, _, h => absurd h (Nat.not_lt_zero _)
  | n + 1, m + 1, i, hi, h1, h2 => by
    have key : ∀ j y, j ∈ cls S.E S.M i → S.E j y → y ∉ cls S.E S.M i → (S.chgF due nw old n y ↔ S.chgF due nw old m y) := by
      intro j y hj e hy
      have := S.out_rk hi hj e hy
      exact S.chgF_eq due nw old n m y (S.hE _ _ e).2 (by omega) (by omega)
    constructor
    · rintro ⟨⟨j, hj, hh⟩, h⟩
      refine ⟨⟨j, hj, ?_⟩, h⟩
      rcases hh with hh | ⟨y, e, hy, hc⟩
      · exact .inl hh
      · exact .inr ⟨y, e, hy, (key j y hj e hy).1 hc⟩
    · rintro ⟨⟨j, hj, hh⟩, h⟩
      refine ⟨⟨j, hj, ?_⟩, h⟩
      rcases hh with hh | ⟨y, e, hy, hc⟩
      · exact .inl hh
      · exact .inr ⟨y, e, hy, (key j y hj e hy).2 hc⟩

theorem Ist.chg_iff (S : Ist) {i : Nat} (hi : S.V i) : S.chg due nw old i ↔ S.tch due nw old i ∧ (nw i ∨ S.val i ≠ old i) := by
  have key : ∀ j y, j ∈ cls S.E S.M i → S.E j y → y ∉ cls S.E S.M i → (S.chgF due nw old (S.rk i) y ↔ S.chg due nw old y) := by
    intro j y hj e hy
    have := S.out_rk hi hj e hy
    exact S.chgF_eq due nw old _ _ y (S.hE _ _ e).2 this (Nat.lt_succ_self _)
  constructor
  · rintro ⟨⟨j, hj, hh⟩, h⟩
    refine ⟨⟨j, hj, ?_⟩, h⟩
    rcases hh with hh | ⟨y, e, hy, hc⟩
    · exact .inl hh
    · exact .inr ⟨y, e, hy, (key j y hj e hy).1 hc⟩
  · rintro ⟨⟨j, hj, hh⟩, h⟩
    refine ⟨⟨j, hj, ?_⟩, h⟩
    rcases hh with hh | ⟨y, e, hy, hc⟩
    · exact .inl hh
    · exact .inr ⟨y, e, hy, (key j y hj e hy).2 hc⟩

theorem Ist.tch_cls (S : Ist) {i j : Nat} (hi : S.V i) (hj : j ∈ cls S.E S.M i) : S.tch due nw old j ↔ S.tch due nw old i := by
  unfold Ist.tch
  rw [← cls_eq (mem_cls.1 hj).2.1 (mem_cls.1 hj).2.2]

/-- what is not touched is as it was, if what is due is due. -/
theorem Ist.quiet (S : Ist) {otn : Nat → Nat} {ous : Nat → Bool} (hnd : ∀ y, S.V y → nw y → due y)
    (hst : ∀ i, S.V i → (∀ j, j ∈ cls S.E S.M i → ¬ due j) → (∀ j y, j ∈ cls S.E S.M i → S.E j y → y ∉ cls S.E S.M i → ¬ nw y ∧ S.val y = old y) →
      (∀ j, j ∈ cls S.E S.M i → S.val j = old j) ∧ (Trc S.E i i → S.tn i = otn i ∧ S.us i = ous i)) :
    ∀ (n i : Nat), S.rk i < n → S.V i → ¬ S.tch due nw old i → S.val i = old i ∧ ¬ nw i ∧ (Trc S.E i i → S.tn i = otn i ∧ S.us i = ous i)
  | 0, _, h, _, _ => absurd h (Nat.not_lt_zero _)
  | n + 1, i, h, hi, ht => by
    have hd : ∀ j, j ∈ cls S.E S.M i → ¬ due j := fun j hj hdj => ht ⟨j, hj, .inl hdj⟩
    have ho : ∀ j y, j ∈ cls S.E S.M i → S.E j y → y ∉ cls S.E S.M i → ¬ nw y ∧ S.val y = old y := by
      intro j y hj e hy
      have hV := (S.hE _ _ e).2
      have hr := S.out_rk hi hj e hy
      have hc : ¬ S.chg due nw old y := fun hh => ht ⟨j, hj, .inr ⟨y, e, hy, hh⟩⟩
      by_cases hty : S.tch due nw old y
      · rw [S.chg_iff hV] at hc
        have : ¬ (nw y ∨ S.val y ≠ old y) := fun hh => hc ⟨hty, hh⟩
        exact ⟨fun hh => this (.inl hh), Classical.byContradiction fun hh => this (.inr hh)⟩
      · have := S.quiet hnd hst n y (by omega) hV hty
        exact ⟨this.2.1, this.1⟩
    have := hst i hi hd ho
    refine ⟨this.1 i (S.cls_self hi), fun hh => hd i (S.cls_self hi) (hnd i hi hh), this.2⟩

/-- how many are so, below m. -/
noncomputable def cnP (P : Nat → Prop) (m : Nat) : Nat := ((List.range m).filter (fun i => @decide (P i) (Classical.propDecidable _))).length
theorem cnP_zero (P : Nat → Prop) : cnP P 0 = 0 := rfl
theorem cnP_pos {P : Nat → Prop} {m : Nat} (h : P m) : cnP P (m + 1) = cnP P m + 1 := by
  unfold cnP
  rw [List.range_succ, List.filter_append, List.length_append]
  simp [h]
theorem cnP_neg {P : Nat → Prop} {m : Nat} (h : ¬ P m) : cnP P (m + 1) = cnP P m := by
  unfold cnP
  rw [List.range_succ, List.filter_append, List.length_append]
  simp [h]
theorem cnP_le (P : Nat → Prop) (m : Nat) : cnP P m ≤ m := by
  unfold cnP
  have := List.length_filter_le (fun i => @decide (P i) (Classical.propDecidable _)) (List.range m)
  simpa using this
theorem cnP_congr {P Q : Nat → Prop} : ∀ {m : Nat}, (∀ i, i < m → (P i ↔ Q i)) → cnP P m = cnP Q m
  | 0, _ => rfl
  | m + 1, h => by
    have ih := cnP_congr (fun i hi => h i (Nat.lt_succ_of_lt hi))
    by_cases hp : P m
    · rw [cnP_pos hp, cnP_pos ((h m (Nat.lt_succ_self _)).1 hp), ih]
    · rw [cnP_neg hp, cnP_neg (fun hq => hp ((h m (Nat.lt_succ_self _)).2 hq)), ih]
theorem cnP_or {P Q : Nat → Prop} : ∀ {m : Nat}, (∀ i, i < m → P i → ¬ Q i) → cnP (fun i => P i ∨ Q i) m = cnP P m + cnP Q m
  | 0, _ => rfl
  | m + 1, h => by
    have ih := cnP_or (fun i hi => h i (Nat.lt_succ_of_lt hi))
    by_cases hp : P m
    · have hq := h m (Nat.lt_succ_self _) hp
      rw [cnP_pos (P := fun i => P i ∨ Q i) (.inl hp), cnP_pos hp, cnP_neg hq, ih]; omega
    · by_cases hq : Q m
      · rw [cnP_pos (P := fun i => P i ∨ Q i) (.inr hq), cnP_neg hp, cnP_pos hq, ih]; omega
      · rw [cnP_neg (P := fun i => P i ∨ Q i) (fun hh => hh.elim hp hq), cnP_neg hp, cnP_neg hq, ih]
end
