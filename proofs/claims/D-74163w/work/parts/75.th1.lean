/-! plain: th1 cnf -/
set_option maxRecDepth 100000
section
theorem cnP_one {a m : Nat} (h : a < m) : cnP (fun j => j = a) m = 1 := by
  induction m with
  | zero => exact absurd h (Nat.not_lt_zero _)
  | succ m ih =>
    by_cases e : m = a
    · rw [cnP_pos (P := fun j => j = a) e, cnP_none (P := fun j => j = a) (fun i hi hh => by have h9 : i = a := hh; omega)]
    · rw [cnP_neg (P := fun j => j = a) e]; exact ih (by omega)
theorem cnP_add {P : Nat → Prop} {a m : Nat} (h : a < m) (hp : ¬ P a) : cnP (fun j => P j ∨ j = a) m = cnP P m + 1 := by
  rw [cnP_or (P := P) (Q := fun j => j = a) (fun i _ h1 h2 => hp (by have h9 : i = a := h2; rw [← h9]; exact h1)), cnP_one h]

theorem cnP_bij : ∀ {m : Nat} {P Q : Nat → Prop} {f : Nat → Nat} {m' : Nat}, (∀ k, k < m → P k → f k < m' ∧ Q (f k)) → (∀ j k, j < m → k < m → P j → P k → f j = f k → j = k) → (∀ i, i < m' → Q i → ∃ k, k < m ∧ P k ∧ f k = i) → cnP P m = cnP Q m'
  | 0, P, Q, f, m', _, _, h3 => by
    rw [cnP_zero, cnP_none (fun i hi hq => by obtain ⟨k, hk, _⟩ := h3 i hi hq; exact absurd hk (Nat.not_lt_zero _))]
  | m + 1, P, Q, f, m', h1, h2, h3 => by
    by_cases hp : P m
    · have a := h1 m (Nat.lt_succ_self _) hp
      have ih := cnP_bij (m := m) (P := P) (Q := fun i => Q i ∧ i ≠ f m) (f := f) (m' := m')
        (fun k hk hpk => ⟨(h1 k (Nat.lt_succ_of_lt hk) hpk).1, (h1 k (Nat.lt_succ_of_lt hk) hpk).2, fun e => by have := h2 k m (Nat.lt_succ_of_lt hk) (Nat.lt_succ_self _) hpk hp e; omega⟩)
        (fun j k hj hk => h2 j k (Nat.lt_succ_of_lt hj) (Nat.lt_succ_of_lt hk))
        (fun i hi hq => by
          obtain ⟨k, hk, hpk, e⟩ := h3 i hi hq.1
          by_cases ek : k = m
          · subst ek; exact absurd e.symm hq.2
          · exact ⟨k, by omega, hpk, e⟩)
      rw [cnP_pos hp, ih, ← cnP_add a.1 (fun hh => hh.2 rfl)]
      refine cnP_congr (fun i _ => ?_)
      constructor
      · rintro (hh | hh)
        · exact hh.1
        · rw [hh]; exact a.2
      · intro hq
        by_cases e : i = f m
        · exact .inr e
        · exact .inl ⟨hq, e⟩
    · rw [cnP_neg hp]
      exact cnP_bij (fun k hk => h1 k (Nat.lt_succ_of_lt hk)) (fun j k hj hk => h2 j k (Nat.lt_succ_of_lt hj) (Nat.lt_succ_of_lt hk)) (fun i hi hq => by
        obtain ⟨k, hk, hpk, e⟩ := h3 i hi hq
        exact ⟨k, by have : k ≠ m := fun ek => hp (ek ▸ hpk); omega, hpk, e⟩)

/-- the greatest of some. -/
noncomputable def mxP (P : Nat → Prop) (f : Nat → Nat) : Nat → Nat
  | 0 => 0
  | m + 1 => @ite _ (P m) (Classical.propDecidable _) (max (mxP P f m) (f m)) (mxP P f m)
theorem mxP_pos {P : Nat → Prop} {f : Nat → Nat} {m : Nat} (h : P m) : mxP P f (m + 1) = max (mxP P f m) (f m) := if_pos h
theorem mxP_neg {P : Nat → Prop} {f : Nat → Nat} {m : Nat} (h : ¬ P m) : mxP P f (m + 1) = mxP P f m := if_neg h
theorem mxP_ge {P : Nat → Prop} {f : Nat → Nat} {j : Nat} : ∀ {m : Nat}, j < m → P j → f j ≤ mxP P f m
  | 0, h, _ => absurd h (Nat.not_lt_zero _)
  | m + 1, h, hp => by
    by_cases e : j = m
    · subst e
      rw [mxP_pos hp]; exact Nat.le_max_right _ _
    · have ih := mxP_ge (f := f) (show j < m by omega) hp
      by_cases hm : P m
      · rw [mxP_pos hm]; exact Nat.le_trans ih (Nat.le_max_left _ _)
      · rw [mxP_neg hm]; exact ih
theorem mxP_le {P : Nat → Prop} {f : Nat → Nat} {b : Nat} : ∀ {m : Nat}, (∀ j, j < m → P j → f j ≤ b) → mxP P f m ≤ b
  | 0, _ => Nat.zero_le _
  | m + 1, h => by
    have ih := mxP_le (fun j hj => h j (Nat.lt_succ_of_lt hj))
    by_cases hm : P m
    · rw [mxP_pos hm]; exact Nat.max_le.2 ⟨ih, h m (Nat.lt_succ_self _) hm⟩
    · rw [mxP_neg hm]; exact ih
theorem mxP_eq {P : Nat → Prop} {f : Nat → Nat} {m x : Nat} (h1 : ∀ j, P j → f j ≤ x) (h2 : x = 0 ∨ ∃ j, j < m ∧ P j ∧ f j = x) : mxP P f m = x := by
  apply Nat.le_antisymm
  · exact mxP_le (fun j _ hj => h1 j hj)
  · rcases h2 with e | ⟨j, hj, hp, e⟩
    · rw [e]; exact Nat.zero_le _
    · rw [← e]; exact mxP_ge hj hp
theorem mxP_congr {P Q : Nat → Prop} {f g : Nat → Nat} : ∀ {m : Nat}, (∀ j, j < m → (P j ↔ Q j)) → (∀ j, j < m → P j → f j = g j) → mxP P f m = mxP Q g m
  | 0, _, _ => rfl
  | m + 1, h, h' => by
    have ih := mxP_congr (fun j hj => h j (Nat.lt_succ_of_lt hj)) (fun j hj => h' j (Nat.lt_succ_of_lt hj))
    by_cases hm : P m
    · rw [mxP_pos hm, mxP_pos ((h m (Nat.lt_succ_self _)).1 hm), ih, h' m (Nat.lt_succ_self _) hm]
    · rw [mxP_neg hm, mxP_neg (fun hh => hm ((h m (Nat.lt_succ_self _)).2 hh)), ih]

/-- how many stand one behind the other. -/
noncomputable def Ist.chF (S : Ist) : Nat → Nat → Nat
  | 0, _ => 0
  | n + 1, i => 1 + mxP (fun j => S.E i j ∧ ¬ Trc S.E j j) (S.chF n) S.M
noncomputable def Ist.ch (S : Ist) (i : Nat) : Nat := S.chF (S.rk i + 1) i
noncomputable def Ist.lng (S : Ist) : Nat := mxP (fun i => S.V i ∧ ¬ Trc S.E i i) S.ch S.M
theorem Ist.chF_le (S : Ist) : ∀ n i, S.chF n i ≤ n
  | 0, _ => Nat.le_refl _
  | n + 1, i => by
    have : mxP (fun j => S.E i j ∧ ¬ Trc S.E j j) (S.chF n) S.M ≤ n := mxP_le (fun j _ _ => S.chF_le n j)
    show 1 + _ ≤ n + 1
    omega
theorem Ist.rk_M (S : Ist) (i : Nat) : S.rk i ≤ S.M := by
  unfold Ist.rk
  have := List.length_filter_le (fun x => @decide (Rch S.E i x) (Classical.propDecidable _)) (List.range S.M)
  simpa using this
theorem Ist.ch_le (S : Ist) (i : Nat) : S.ch i ≤ S.M + 1 := by
  have := S.chF_le (S.rk i + 1) i
  have := S.rk_M i
  unfold Ist.ch
  omega
theorem Ist.E_rk (S : Ist) {i j : Nat} (hn : ¬ Trc S.E i i) (e : S.E i j) : S.rk j < S.rk i := S.rk_lt (S.hE _ _ e).1 (Rch.one e) (fun r => hn ⟨j, e, r⟩)
theorem Ist.chF_eq (S : Ist) : ∀ (n m i : Nat), ¬ Trc S.E i i → S.rk i < n → S.rk i < m → S.chF n i = S.chF m i
  | 0, _, _, _, h, _ => absurd h (Nat.not_lt_zero _)
  | _ + 1, 0, _, _, _, h => absurd h (Nat.not_lt_zero _)
  | n + 1, m + 1, i, hn, h1, h2 => by
    show 1 + _ = 1 + _
    congr 1
    refine mxP_congr (fun j _ => Iff.rfl) (fun j _ hj => ?_)
    have := S.E_rk hn hj.1
    exact S.chF_eq n m j hj.2 (by omega) (by omega)
theorem Ist.ch_eq (S : Ist) {i : Nat} (hn : ¬ Trc S.E i i) : S.ch i = 1 + mxP (fun j => S.E i j ∧ ¬ Trc S.E j j) S.ch S.M := by
  show 1 + _ = 1 + _
  congr 1
  refine mxP_congr (fun j _ => Iff.rfl) (fun j _ hj => ?_)
  have := S.E_rk hn hj.1
  exact S.chF_eq _ _ j hj.2 this (Nat.lt_succ_self _)
end
section
variable {G : Gv} {T : Tv} {L : GA} {A : TA} {x o : Nat} {B : IA} {tu un ga : Nat} {s : TjS} {gv : Nat → Int32} {S : Ist}

theorem IsI.ist (W : G.WF) (X : T.WF G) (R : G.RL) : IsI (T.ist G gv W X R) G T gv := ⟨fun _ => Iff.rfl, rfl, rfl, rfl⟩

theorem KnF.clS (W : G.WF) (X : T.WF G) (IS : IsI S G T gv) (F : KnF (T.is G) (T.ed G) s) {i k : Nat} (hi : T.is G i) (hk : s.kn i = some k) : ∀ j, j ∈ cls S.E S.M i ↔ s.kn j = some k := by
  intro j
  rw [IS.ee, IS.mm, F.cl W X hi hk, mem_mem]
  exact ⟨fun hh => hh.2, fun hh => ⟨X.isLt (F.lt hh).1, hh⟩⟩

theorem px_inKnot {h : AH} (IS : IsI S G T gv) (X : T.WF G) (K : InR h.c L A G T x o B tu un s) {i : Nat} (hi : T.is G i) {Q : Int32 → AH → Prop} (hQ : Q (iP (Trc S.E i i)) h) : wp_X17_inKnot o (I i) h Q := by
  have h40 := X.n40
  have hlt := X.isLt hi
  have h320 := K.F.n
  obtain ⟨k, hk, e⟩ := K.F.a i hi
  have f1 : h.fr 1701 o = some B.kn := K.K.Y.f1
  have f6 : h.fr 1706 o = some B.ik := K.K.Y.f6
  have hkt : (if s.kt k then 1 else 0) = iP (Trc S.E i i) := by
    have := K.F.f i k e
    rw [IS.ee]
    by_cases ht : Trc (T.ed G) i i
    · rw [iP_pos ht, if_pos (this.2 ht)]
    · rw [iP_neg ht, if_neg (fun hh => ht (this.1 hh))]
  unfold wp_X17_inKnot
  rw [f1, f6, adr_some, adr_some, I_ni (by omega), show h.ai B.kn i = oI (s.kn i) from K.R.kn i hlt, e]
  refine ⟨nn_of rfl K.K.J.k, ix_of rfl K.K.Y.k1 (by omega) (by decide), ?_⟩
  rw [show oI (some k) = I k from rfl, I_ni (by omega), show h.ai B.ik k = (if s.kt k then 1 else 0) from K.R.ik k hk, hkt]
  refine ⟨ix_of rfl K.K.Y.k6 (by omega) (by decide), ?_, hQ⟩
  by_cases ht : Trc S.E i i
  · rw [iP_pos ht]; exact .inr rfl
  · rw [iP_neg ht]; exact .inl rfl

theorem px_oneP {h : AH} {P : Prop} {Q : Int32 → AH → Prop} (hQ : Q (iP P) h) : wp_X0_one (iP P) h Q := by
  intro m hm
  by_cases hp : P
  · rw [iP_pos hp, if_neg (by decide)] at hm
    rw [iP_pos hp] at hQ
    rw [hm]; exact hQ
  · rw [iP_neg hp, if_pos rfl] at hm
    rw [iP_neg hp] at hQ
    rw [hm]; exact hQ

theorem px_sizeOf {h : AH} (W : G.WF) (IS : IsI S G T gv) (X : T.WF G) (K : InR h.c L A G T x o B tu un s) {i k : Nat} (hi : T.is G i) (hk : s.kn i = some k) {Q : Int32 → AH → Prop} (hQ : Q (I (cnP (fun j => j ∈ cls S.E S.M i) S.M)) h) : wp_X17_sizeOf o (I k) h Q := by
  have h40 := X.n40
  have h320 := K.F.n
  have hk2 := (K.F.lt hk).2
  have hMM := IS.mm
  have hcl := K.F.clS W X IS hi hk
  have f1 : h.fr 1701 o = some B.kn := K.K.Y.f1
  have m : h.fi 1700 o = I (8 * T.n) := K.m
  unfold wp_X17_sizeOf
  refine xlp_cnt (8 * T.n) (fun n q U => U = h ∧ q = (I (cnP (fun j => j ∈ cls S.E S.M i) n), I n)) ⟨rfl, rfl⟩ ?_
  intro n q U Kk hn hh hK
  obtain ⟨hU, hq⟩ := hh
  rw [hU, hq]
  clear hU hq q U
  refine ⟨nn_of rfl K.K.J.k, ?_⟩
  rw [m]
  by_cases e : n = 8 * T.n
  · refine brT (by (first | omega | ((try simp (disch := omega) only [L_le, le_L, L_lt, lt_L, eq_L, L_eq, I_le, I_lt, I_eq, I_ni, add_L, L_add, I_add, mul_L, L_mul, I_mul, sub_L, L_sub, I_sub, div_L, rem_L]); done) | ((try simp (disch := omega) only [L_le, le_L, L_lt, lt_L, eq_L, L_eq, I_le, I_lt, I_eq, I_ni, add_L, L_add, I_add, mul_L, L_mul, I_mul, sub_L, L_sub, I_sub, div_L, rem_L]); omega))) ?_
    rw [e, ← hMM]
    exact hQ
  have hn' : n < 8 * T.n := by omega
  refine brF (by (first | omega | ((try simp (disch := omega) only [L_le, le_L, L_lt, lt_L, eq_L, L_eq, I_le, I_lt, I_eq, I_ni, add_L, L_add, I_add, mul_L, L_mul, I_mul, sub_L, L_sub, I_sub, div_L, rem_L]); done) | ((try simp (disch := omega) only [L_le, le_L, L_lt, lt_L, eq_L, L_eq, I_le, I_lt, I_eq, I_ni, add_L, L_add, I_add, mul_L, L_mul, I_mul, sub_L, L_sub, I_sub, div_L, rem_L]); omega))) ?_
  rw [f1, adr_some]
  refine ⟨ix_of rfl K.K.Y.k1 (by omega) (by decide), ?_⟩
  rw [I_ni (by omega), show h.ai B.kn n = oI (s.kn n) from K.R.kn n hn']
  intro m5 hm5
  have hq : oI (s.kn n) = I k ↔ n ∈ cls S.E S.M i := (oI_eq (fun j e' => by have := (K.F.lt e').2; omega) (by omega)).trans (hcl n).symm
  have e5 : m5 = iP (n ∈ cls S.E S.M i) := by
    rw [hm5]
    by_cases hc : n ∈ cls S.E S.M i
    · rw [iP_pos hc, if_pos (hq.2 hc)]
    · rw [iP_neg hc, if_neg (fun hh => hc (hq.1 hh))]
  rw [e5]
  have hle := cnP_le (fun j => j ∈ cls S.E S.M i) n
  refine px_oneP (h := h.srm 0 0) (pu ?_)
  by_cases hc : n ∈ cls S.E S.M i
  · rw [iP_pos hc]
    (try simp (disch := omega) only [L_le, le_L, L_lt, lt_L, eq_L, L_eq, I_le, I_lt, I_eq, I_ni, add_L, L_add, I_add, mul_L, L_mul, I_mul, sub_L, L_sub, I_sub, div_L, rem_L])
    refine hK _ _ hn' ⟨rfl, ?_⟩
    rw [cnP_pos hc]
  · rw [iP_neg hc]
    refine hK _ _ hn' ⟨rfl, ?_⟩
    rw [cnP_neg hc]
    (try simp (disch := omega) only [L_le, le_L, L_lt, lt_L, eq_L, L_eq, I_le, I_lt, I_eq, I_ni, add_L, L_add, I_add, mul_L, L_mul, I_mul, sub_L, L_sub, I_sub, div_L, rem_L])
    try rfl

/-- the first of a knot stands for it. -/
theorem KnF.heads (W : G.WF) (X : T.WF G) (IS : IsI S G T gv) (F : KnF (T.is G) (T.ed G) s) : cnP (fun k => s.kt k = true) s.kts = cnP (fun i => S.V i ∧ Trc S.E i i ∧ S.hd i = i) 320 := by
  have h40 := X.n40
  have hMM := IS.mm
  have hch : ∀ k, ∃ i, k < s.kts → T.is G i ∧ s.kn i = some k := fun k => by
    by_cases hk : k < s.kts
    · obtain ⟨v, hv, e⟩ := F.e k hk
      exact ⟨v, fun _ => ⟨hv, e⟩⟩
    · exact ⟨0, fun hh => absurd hh hk⟩
  have hf : ∀ k, k < s.kts → T.is G (hch k).choose ∧ s.kn (hch k).choose = some k := fun k hk => (hch k).choose_spec hk
  have hV : ∀ k, k < s.kts → S.V (hch k).choose := fun k hk => (IS.vv _).2 (hf k hk).1
  have hhd : ∀ k, k < s.kts → s.kn (S.hd (hch k).choose) = some k := fun k hk => (F.clS W X IS (hf k hk).1 (hf k hk).2 _).1 (S.hd_mem (hV k hk))
  refine cnP_bij (f := fun k => S.hd (hch k).choose) (fun k hk hp => ?_) (fun j k hj hk _ _ e => ?_) (fun i hi hq => ?_)
  · have hm := S.hd_mem (hV k hk)
    have hVh := S.cls_V (hV k hk) hm
    refine ⟨by have := S.hV _ hVh; omega, hVh, ?_, S.hd_cls (hV k hk) hm⟩
    rw [IS.ee]
    exact (F.f _ k (hhd k hk)).1 hp
  · have h1 := hhd j hj
    have h2 := hhd k hk
    have e' : S.hd (hch j).choose = S.hd (hch k).choose := e
    rw [e', h2] at h1
    exact (Option.some.inj h1).symm
  · obtain ⟨k, hk, e⟩ := F.a i ((IS.vv i).1 hq.1)
    refine ⟨k, hk, (F.f i k e).2 (by have := hq.2.1; rw [IS.ee] at this; exact this), ?_⟩
    show S.hd (hch k).choose = i
    rw [← hq.2.2]
    have := (F.clS W X IS ((IS.vv i).1 hq.1) e (hch k).choose).2 (hf k hk).2
    exact S.hd_cls hq.1 this

theorem px_knotMany {h : AH} (W : G.WF) (IS : IsI S G T gv) (X : T.WF G) (K : InR h.c L A G T x o B tu un s) {Q : Int32 → AH → Prop} (hQ : Q (I (cnP (fun i => S.V i ∧ Trc S.E i i ∧ S.hd i = i) 320)) h) : wp_X17_knotMany o h Q := by
  have h320 := K.F.n
  have f6 : h.fr 1706 o = some B.ik := K.K.Y.f6
  have m : h.fi 1707 o = I s.kts := K.R.n1
  unfold wp_X17_knotMany
  refine xlp_cnt s.kts (fun n q U => U = h ∧ q = (I (cnP (fun k => s.kt k = true) n), I n)) ⟨rfl, rfl⟩ ?_
  intro n q U Kk hn hh hK
  obtain ⟨hU, hq⟩ := hh
  rw [hU, hq]
  clear hU hq q U
  refine ⟨nn_of rfl K.K.J.k, ?_⟩
  rw [m]
  by_cases e : n = s.kts
  · refine brT (by (first | omega | ((try simp (disch := omega) only [L_le, le_L, L_lt, lt_L, eq_L, L_eq, I_le, I_lt, I_eq, I_ni, add_L, L_add, I_add, mul_L, L_mul, I_mul, sub_L, L_sub, I_sub, div_L, rem_L]); done) | ((try simp (disch := omega) only [L_le, le_L, L_lt, lt_L, eq_L, L_eq, I_le, I_lt, I_eq, I_ni, add_L, L_add, I_add, mul_L, L_mul, I_mul, sub_L, L_sub, I_sub, div_L, rem_L]); omega))) ?_
    rw [e, K.F.heads W X IS]
    exact hQ
  have hn' : n < s.kts := by omega
  refine brF (by (first | omega | ((try simp (disch := omega) only [L_le, le_L, L_lt, lt_L, eq_L, L_eq, I_le, I_lt, I_eq, I_ni, add_L, L_add, I_add, mul_L, L_mul, I_mul, sub_L, L_sub, I_sub, div_L, rem_L]); done) | ((try simp (disch := omega) only [L_le, le_L, L_lt, lt_L, eq_L, L_eq, I_le, I_lt, I_eq, I_ni, add_L, L_add, I_add, mul_L, L_mul, I_mul, sub_L, L_sub, I_sub, div_L, rem_L]); omega))) ?_
  rw [f6, adr_some]
  refine ⟨ix_of rfl K.K.Y.k6 (by omega) (by decide), ?_⟩
  have e5 : (if s.kt n then 1 else 0) = iP (s.kt n = true) := by
    by_cases hc : s.kt n = true
    · rw [iP_pos hc, if_pos hc]
    · rw [iP_neg hc, if_neg hc]
  rw [I_ni (by omega), show h.ai B.ik n = (if s.kt n then 1 else 0) from K.R.ik n hn', e5]
  have hle := cnP_le (fun k => s.kt k = true) n
  refine px_oneP (h := h.srm 0 0) (pu ?_)
  by_cases hc : s.kt n = true
  · rw [iP_pos hc]
    (try simp (disch := omega) only [L_le, le_L, L_lt, lt_L, eq_L, L_eq, I_le, I_lt, I_eq, I_ni, add_L, L_add, I_add, mul_L, L_mul, I_mul, sub_L, L_sub, I_sub, div_L, rem_L])
    refine hK _ _ hn' ⟨rfl, ?_⟩
    rw [cnP_pos hc]
  · rw [iP_neg hc]
    refine hK _ _ hn' ⟨rfl, ?_⟩
    rw [cnP_neg hc]
    (try simp (disch := omega) only [L_le, le_L, L_lt, lt_L, eq_L, L_eq, I_le, I_lt, I_eq, I_ni, add_L, L_add, I_add, mul_L, L_mul, I_mul, sub_L, L_sub, I_sub, div_L, rem_L])
    try rfl
end
