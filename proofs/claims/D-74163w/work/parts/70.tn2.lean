/-! plain: tn2 -/
set_option maxRecDepth 100000
section
variable {G : Gv} {V : Tv} {T : TS} {gv : Nat → Int32}

/-- a bit of rows of ten words. -/
def RB (a : Nat → Int32) (i j : Nat) : Bool := bt (a (10 * i + j / 32)) (j % 32)
def NR (a : Nat → Int32) (R : Nat → Nat → Prop) : Prop := ∀ i j, i < 320 → j < 320 → (RB a i j = true ↔ R i j)
theorem NR.congr {a : Nat → Int32} {R R' : Nat → Nat → Prop} (h : NR a R) (g : ∀ i j, i < 320 → j < 320 → (R i j ↔ R' i j)) : NR a R' := fun i j hi hj => (h i j hi hj).trans (g i j hi hj)
theorem NR.set {a : Nat → Int32} {R : Nat → Nat → Prop} (h : NR a R) {i j : Nat} (hi : i < 320) (hj : j < 320) : NR (updN a (10 * i + j / 32) (a (10 * i + j / 32) ||| jshl 1 (I (j % 32)))) (fun i' j' => R i' j' ∨ (i' = i ∧ j' = j)) := by
  intro i' j' hi' hj'
  unfold RB
  have hs : j % 32 < 32 := Nat.mod_lt _ (by decide)
  by_cases e : 10 * i' + j' / 32 = 10 * i + j / 32
  · have ei : i' = i := by omega
    have ej : j' / 32 = j / 32 := by omega
    subst ei
    rw [e, updN_same, bt_or, bt_1shl hs]
    have hR := h i' j' hi' hj'
    unfold RB at hR
    rw [e] at hR
    constructor
    · intro hh
      rcases (Bool.or_eq_true _ _).mp hh with h1 | h1
      · exact .inl (hR.1 h1)
      · have := of_decide_eq_true h1
        exact .inr ⟨rfl, by omega⟩
    · rintro (h1 | ⟨_, h1⟩)
      · rw [hR.2 h1]; rfl
      · have : decide (j' % 32 = j % 32) = true := decide_eq_true (by rw [h1])
        rw [this, Bool.or_true]
  · rw [updN_ne _ _ e]
    have hR := h i' j' hi' hj'
    unfold RB at hR
    rw [hR]
    exact ⟨.inl, fun hh => hh.elim id (fun ⟨h1, h2⟩ => absurd (by rw [h1, h2]) e)⟩
theorem NR.orw {a : Nat → Int32} {R : Nat → Nat → Prop} (h : NR a R) {i j w : Nat} (hi : i < 320) (hj : j < 320) (hw : w < 10) : NR (updN a (10 * i + w) (a (10 * i + w) ||| a (10 * j + w))) (fun i' j' => R i' j' ∨ (i' = i ∧ j' / 32 = w ∧ R j j')) := by
  intro i' j' hi' hj'
  unfold RB
  have hR := h i' j' hi' hj'
  unfold RB at hR
  by_cases e : 10 * i' + j' / 32 = 10 * i + w
  · have ei : i' = i := by omega
    have ej : j' / 32 = w := by omega
    have hR2 := h j j' hj hj'
    unfold RB at hR2
    rw [ej] at hR hR2
    subst ei
    rw [e, updN_same, bt_or]
    constructor
    · intro hh
      rcases (Bool.or_eq_true _ _).mp hh with h1 | h1
      · exact .inl (hR.1 h1)
      · exact .inr ⟨rfl, ej, hR2.1 h1⟩
    · rintro (h1 | ⟨_, _, h1⟩)
      · rw [hR.2 h1]; rfl
      · rw [hR2.2 h1, Bool.or_true]
  · rw [updN_ne _ _ e, hR]
    exact ⟨.inl, fun hh => hh.elim id (fun ⟨h1, h2, _⟩ => absurd (by rw [h1, h2]) e)⟩

theorem pt_bit {r : Nat} (hr : r = 34 ∨ r = 35) {i j : Nat} (hi : i < 320) (hj : j < 320) {Q : Int32 → TS → Prop} (h : Q (if RB (T.a r) i j then 1 else 0) T) : wp_X1_bit r (I i) (I j) T Q := by
  have tl : tlen r = 3200 ∧ ttg r = 40 := by rcases hr with rfl | rfl <;> exact ⟨rfl, rfl⟩
  unfold wp_X1_bit
  (try simp (disch := omega) only [L_le, le_L, L_lt, lt_L, eq_L, L_eq, I_le, I_lt, I_eq, I_ni, add_L, L_add, I_add, mul_L, L_mul, I_mul, sub_L, L_sub, I_sub, div_L, rem_L])
  refine ⟨tix_I tl.2 (by omega) (by omega), ?_⟩
  intro m hm
  have : m = if RB (T.a r) i j then 1 else 0 := by
    rw [hm]
    unfold RB
    have hs : j % 32 < 32 := Nat.mod_lt _ (by decide)
    by_cases hb : bt (T.a r (10 * i + j / 32)) (j % 32) = true
    · rw [if_pos ((has_ushr hs).2 hb), if_pos hb]
    · rw [if_neg (fun h => hb ((has_ushr hs).1 h)), if_neg hb]
  rw [this]
  refine ⟨?_, h⟩
  by_cases hb : RB (T.a r) i j = true <;> simp [bz, hb]

theorem Wa.empty {R : Nat → Nat → Prop} {k a b : Nat} (h : ∀ c, ¬ R a c) : ¬ Wa R k a b := fun hh => by
  obtain ⟨c, e, _⟩ := Wa.sound k a b hh
  exact h c e

theorem pt_laysReach (W : G.WF) (X : V.WF G) (P : V.PO G) (J : TwI T G V gv) (B : TwB T G V) {Q : TS → Prop} (h : ∀ U, Tch [34, 35] [] T U → NR (U.a 34) (V.ed G) → NR (U.a 35) (Trc (V.ed G)) → Q U) : wp_X1_laysReach T Q := by
  have h40 := X.n40
  unfold wp_X1_laysReach
  refine tlp_cnt 3200 (fun k s U => s = I k ∧ Tch [34, 35] [] T U ∧ ∀ i, i < k → U.a 34 i = 0) ⟨rfl, Tch.refl T, fun i hi => by omega⟩ ?_
  rintro k _ U K hk ⟨rfl, F, h1⟩ hK
  by_cases e : k = 3200
  rotate_left
  · refine brF (by (first | omega | ((try simp (disch := omega) only [L_le, le_L, L_lt, lt_L, eq_L, L_eq, I_le, I_lt, I_eq, I_ni, add_L, L_add, I_add, mul_L, L_mul, I_mul, sub_L, L_sub, I_sub, div_L, rem_L]); done) | ((try simp (disch := omega) only [L_le, le_L, L_lt, lt_L, eq_L, L_eq, I_le, I_lt, I_eq, I_ni, add_L, L_add, I_add, mul_L, L_mul, I_mul, sub_L, L_sub, I_sub, div_L, rem_L]); omega))) ⟨tix_I rfl (by show _ < 3200; omega) (by decide), ?_⟩
    intro U1 hU1
    rw [I_ni (by omega)] at hU1
    (try simp (disch := omega) only [L_le, le_L, L_lt, lt_L, eq_L, L_eq, I_le, I_lt, I_eq, I_ni, add_L, L_add, I_add, mul_L, L_mul, I_mul, sub_L, L_sub, I_sub, div_L, rem_L])
    refine hK _ _ (by omega) ⟨rfl, by rw [hU1]; exact F.sa (by decide) _ _, fun i hi => ?_⟩
    rw [hU1, sa_at]
    by_cases ei : i = k
    · rw [ei, updN_same]
    · rw [updN_ne _ _ ei]; exact h1 i (by omega)
  subst e
  refine brT (by (first | omega | ((try simp (disch := omega) only [L_le, le_L, L_lt, lt_L, eq_L, L_eq, I_le, I_lt, I_eq, I_ni, add_L, L_add, I_add, mul_L, L_mul, I_mul, sub_L, L_sub, I_sub, div_L, rem_L]); done) | ((try simp (disch := omega) only [L_le, le_L, L_lt, lt_L, eq_L, L_eq, I_le, I_lt, I_eq, I_ni, add_L, L_add, I_add, mul_L, L_mul, I_mul, sub_L, L_sub, I_sub, div_L, rem_L]); omega))) ?_
  have N0 : NR (U.a 34) (fun _ _ => False) := fun i j hi hj => by
    unfold RB
    rw [h1 _ (by omega), bt_zero]
    exact ⟨fun hh => absurd hh (by decide), fun hh => hh.elim⟩
  clear h1 hK K hk
  -- what each hangs on
  refine tlp_cnt 320 (fun k s U => s = I k ∧ Tch [34, 35] [] T U ∧ NR (U.a 34) (fun i j => i < k ∧ V.ed G i j)) ⟨rfl, F, N0.congr (fun i j _ _ => ⟨fun hh => hh.elim, fun hh => absurd hh.1 (Nat.not_lt_zero _)⟩)⟩ ?_
  clear N0 F U
  rintro k _ U K hk ⟨rfl, F, N⟩ hK
  by_cases e : k = 320
  rotate_left
  · have hk' : k < 320 := by omega
    have JU := J.keep F (by decide) (by decide) (by decide) (by decide) (by decide) (by decide)
    have BU := B.keep F (by decide) (by decide) (by decide)
    refine brF (by (first | omega | ((try simp (disch := omega) only [L_le, le_L, L_lt, lt_L, eq_L, L_eq, I_le, I_lt, I_eq, I_ni, add_L, L_add, I_add, mul_L, L_mul, I_mul, sub_L, L_sub, I_sub, div_L, rem_L]); done) | ((try simp (disch := omega) only [L_le, le_L, L_lt, lt_L, eq_L, L_eq, I_le, I_lt, I_eq, I_ni, add_L, L_add, I_add, mul_L, L_mul, I_mul, sub_L, L_sub, I_sub, div_L, rem_L]); omega))) ⟨tix_I rfl (by show _ < 320; omega) (by decide), ?_⟩
    rw [I_ni (by omega), BU.th k hk']
    by_cases his : V.is G k
    · rw [iP_pos his]
      refine brF (by decide) ?_
      refine pt_asksOf W X JU BU his ?_
      refine tlp_cnt 32 (fun o s U2 => s = I o ∧ Tch [34, 35] [] T U2 ∧ NR (U2.a 34) (fun i j => (i < k ∧ V.ed G i j) ∨ (i = k ∧ ∃ u, u < o ∧ bt (V.ask G k) u = true ∧ V.oth G k u = j))) ⟨rfl, F, N.congr (fun i j _ _ => ⟨.inl, fun hh => hh.elim id (fun ⟨_, u, hu, _⟩ => absurd hu (Nat.not_lt_zero _))⟩)⟩ ?_
      clear JU BU
      rintro o _ U2 K2 ho ⟨rfl, F2, N2⟩ hK2
      by_cases eo : o = 32
      · subst eo
        refine brT (by (first | omega | ((try simp (disch := omega) only [L_le, le_L, L_lt, lt_L, eq_L, L_eq, I_le, I_lt, I_eq, I_ni, add_L, L_add, I_add, mul_L, L_mul, I_mul, sub_L, L_sub, I_sub, div_L, rem_L]); done) | ((try simp (disch := omega) only [L_le, le_L, L_lt, lt_L, eq_L, L_eq, I_le, I_lt, I_eq, I_ni, add_L, L_add, I_add, mul_L, L_mul, I_mul, sub_L, L_sub, I_sub, div_L, rem_L]); omega))) ?_
        (try simp (disch := omega) only [L_le, le_L, L_lt, lt_L, eq_L, L_eq, I_le, I_lt, I_eq, I_ni, add_L, L_add, I_add, mul_L, L_mul, I_mul, sub_L, L_sub, I_sub, div_L, rem_L])
        refine hK _ _ hk' ⟨rfl, F2, N2.congr (fun i j _ _ => ?_)⟩
        constructor
        · rintro (⟨h1, h2⟩ | ⟨rfl, u, h1, h2, h3⟩)
          · exact ⟨by omega, h2⟩
          · exact ⟨by omega, his, u, h1, h2, h3⟩
        · rintro ⟨h1, h2⟩
          by_cases ei : i = k
          · obtain ⟨_, u, h3, h4, h5⟩ := h2
            subst ei
            exact .inr ⟨rfl, u, h3, h4, h5⟩
          · exact .inl ⟨by omega, h2⟩
      have ho' : o < 32 := by omega
      have J2 := J.keep F2 (by decide) (by decide) (by decide) (by decide) (by decide) (by decide)
      have B2 := B.keep F2 (by decide) (by decide) (by decide)
      refine brF (by (first | omega | ((try simp (disch := omega) only [L_le, le_L, L_lt, lt_L, eq_L, L_eq, I_le, I_lt, I_eq, I_ni, add_L, L_add, I_add, mul_L, L_mul, I_mul, sub_L, L_sub, I_sub, div_L, rem_L]); done) | ((try simp (disch := omega) only [L_le, le_L, L_lt, lt_L, eq_L, L_eq, I_le, I_lt, I_eq, I_ni, add_L, L_add, I_add, mul_L, L_mul, I_mul, sub_L, L_sub, I_sub, div_L, rem_L]); omega))) ?_
      refine pt_has ho' ?_
      by_cases hb : bt (V.ask G k) o = true
      · rw [if_pos hb]
        obtain ⟨q, hr, hq, hoc, e1, e2, e3⟩ := X.oth_is W his hb
        have hlt := X.isLt e3
        rw [e1] at hlt
        refine brF (by decide) ⟨tix_I rfl (by show _ < 320; omega) (by decide), ?_⟩
        rw [B2.ba k his, hr]
        show wp_X1_instanceOf (I q) (I o) U2 _
        refine pt_instanceOf W X P J2 hq hoc ?_
        (try simp (disch := omega) only [L_le, le_L, L_lt, lt_L, eq_L, L_eq, I_le, I_lt, I_eq, I_ni, add_L, L_add, I_add, mul_L, L_mul, I_mul, sub_L, L_sub, I_sub, div_L, rem_L])
        refine ⟨tix_I rfl (by show _ < 3200; omega) (by decide), tix_I rfl (by show _ < 3200; omega) (by decide), ?_⟩
        intro U3 hU3
        refine hK2 _ _ ho' ⟨rfl, by rw [hU3]; exact F2.sa (by decide) _ _, ?_⟩
        rw [hU3, sa_at]
        refine (N2.set hk' (by omega)).congr (fun i j _ _ => ?_)
        constructor
        · rintro ((h1 | ⟨h1, u, h2, h3, h4⟩) | ⟨h1, h2⟩)
          · exact .inl h1
          · exact .inr ⟨h1, u, by omega, h3, h4⟩
          · exact .inr ⟨h1, o, by omega, hb, by rw [e1, h2]⟩
        · rintro (h1 | ⟨h1, u, h2, h3, h4⟩)
          · exact .inl (.inl h1)
          · by_cases eu : u = o
            · subst eu
              exact .inr ⟨h1, by rw [← h4, e1]⟩
            · exact .inl (.inr ⟨h1, u, by omega, h3, h4⟩)
      · rw [if_neg hb]
        refine brT rfl ?_
        (try simp (disch := omega) only [L_le, le_L, L_lt, lt_L, eq_L, L_eq, I_le, I_lt, I_eq, I_ni, add_L, L_add, I_add, mul_L, L_mul, I_mul, sub_L, L_sub, I_sub, div_L, rem_L])
        refine hK2 _ _ ho' ⟨rfl, F2, N2.congr (fun i j _ _ => ?_)⟩
        constructor
        · rintro (h1 | ⟨h1, u, h2, h3, h4⟩)
          · exact .inl h1
          · exact .inr ⟨h1, u, by omega, h3, h4⟩
        · rintro (h1 | ⟨h1, u, h2, h3, h4⟩)
          · exact .inl h1
          · exact .inr ⟨h1, u, by have : u ≠ o := fun eu => hb (eu ▸ h3); omega, h3, h4⟩
    · rw [iP_neg his]
      refine brT rfl ?_
      (try simp (disch := omega) only [L_le, le_L, L_lt, lt_L, eq_L, L_eq, I_le, I_lt, I_eq, I_ni, add_L, L_add, I_add, mul_L, L_mul, I_mul, sub_L, L_sub, I_sub, div_L, rem_L])
      refine hK _ _ hk' ⟨rfl, F, N.congr (fun i j _ _ => ⟨fun ⟨h1, h2⟩ => ⟨by omega, h2⟩, fun ⟨h1, h2⟩ => ⟨by have : i ≠ k := fun ei => his (ei ▸ h2.1); omega, h2⟩⟩)⟩
  subst e
  refine brT (by (first | omega | ((try simp (disch := omega) only [L_le, le_L, L_lt, lt_L, eq_L, L_eq, I_le, I_lt, I_eq, I_ni, add_L, L_add, I_add, mul_L, L_mul, I_mul, sub_L, L_sub, I_sub, div_L, rem_L]); done) | ((try simp (disch := omega) only [L_le, le_L, L_lt, lt_L, eq_L, L_eq, I_le, I_lt, I_eq, I_ni, add_L, L_add, I_add, mul_L, L_mul, I_mul, sub_L, L_sub, I_sub, div_L, rem_L]); omega))) ?_
  have N' : NR (U.a 34) (V.ed G) := N.congr (fun i j hi _ => ⟨fun hh => hh.2, fun hh => ⟨hi, hh⟩⟩)
  clear N hK K hk
  -- a copy
  refine tlp_cnt 3200 (fun k s U => s = I k ∧ Tch [34, 35] [] T U ∧ NR (U.a 34) (V.ed G) ∧ ∀ i, i < k → U.a 35 i = U.a 34 i) ⟨rfl, F, N', fun i hi => by omega⟩ ?_
  clear N' F U
  rintro k _ U K hk ⟨rfl, F, N, h1⟩ hK
  by_cases e : k = 3200
  rotate_left
  · refine brF (by (first | omega | ((try simp (disch := omega) only [L_le, le_L, L_lt, lt_L, eq_L, L_eq, I_le, I_lt, I_eq, I_ni, add_L, L_add, I_add, mul_L, L_mul, I_mul, sub_L, L_sub, I_sub, div_L, rem_L]); done) | ((try simp (disch := omega) only [L_le, le_L, L_lt, lt_L, eq_L, L_eq, I_le, I_lt, I_eq, I_ni, add_L, L_add, I_add, mul_L, L_mul, I_mul, sub_L, L_sub, I_sub, div_L, rem_L]); omega))) ⟨tix_I rfl (by show _ < 3200; omega) (by decide), tix_I rfl (by show _ < 3200; omega) (by decide), ?_⟩
    intro U1 hU1
    rw [I_ni (by omega)] at hU1
    (try simp (disch := omega) only [L_le, le_L, L_lt, lt_L, eq_L, L_eq, I_le, I_lt, I_eq, I_ni, add_L, L_add, I_add, mul_L, L_mul, I_mul, sub_L, L_sub, I_sub, div_L, rem_L])
    refine hK _ _ (by omega) ⟨rfl, by rw [hU1]; exact F.sa (by decide) _ _, by rw [hU1, sa_off _ (by decide)]; exact N, fun i hi => ?_⟩
    rw [hU1, sa_at, sa_off _ (by decide)]
    by_cases ei : i = k
    · rw [ei, updN_same]
    · rw [updN_ne _ _ ei]; exact h1 i (by omega)
  subst e
  refine brT (by (first | omega | ((try simp (disch := omega) only [L_le, le_L, L_lt, lt_L, eq_L, L_eq, I_le, I_lt, I_eq, I_ni, add_L, L_add, I_add, mul_L, L_mul, I_mul, sub_L, L_sub, I_sub, div_L, rem_L]); done) | ((try simp (disch := omega) only [L_le, le_L, L_lt, lt_L, eq_L, L_eq, I_le, I_lt, I_eq, I_ni, add_L, L_add, I_add, mul_L, L_mul, I_mul, sub_L, L_sub, I_sub, div_L, rem_L]); omega))) ?_
  have M0 : NR (U.a 35) (Wa (V.ed G) 0) := fun i j hi hj => by
    have := N i j hi hj
    unfold RB at this ⊢
    rw [h1 _ (by omega)]
    exact this
  clear h1 hK K hk
  have hemp : ∀ i, 8 * V.n ≤ i → ∀ c, ¬ V.ed G i c := fun i hi c hc => by have := X.isLt hc.1; omega
  -- closed
  refine tlp_cnt (8 * V.n) (fun k s U => s = I k ∧ Tch [34, 35] [] T U ∧ NR (U.a 34) (V.ed G) ∧ NR (U.a 35) (Wa (V.ed G) k)) ⟨rfl, F, N, M0⟩ ?_
  clear M0 N F U
  rintro j _ U K hj ⟨rfl, F, N, M⟩ hK
  have JU := J.keep F (by decide) (by decide) (by decide) (by decide) (by decide) (by decide)
  rw [JU.n]
  (try simp (disch := omega) only [L_le, le_L, L_lt, lt_L, eq_L, L_eq, I_le, I_lt, I_eq, I_ni, add_L, L_add, I_add, mul_L, L_mul, I_mul, sub_L, L_sub, I_sub, div_L, rem_L])
  by_cases e : j = 8 * V.n
  · subst e
    exact brT (Nat.le_refl _) (h U F N (M.congr (fun a b _ _ => Wa.all (fun a b hh => X.isLt (X.edV W hh).2))))
  have hj' : j < 8 * V.n := by omega
  refine brF (by omega) ?_
  clear JU
  refine tlp_cnt (8 * V.n) (fun i s U => s = I i ∧ Tch [34, 35] [] T U ∧ NR (U.a 34) (V.ed G) ∧ NR (U.a 35) (fun a b => if a < i then Wa (V.ed G) (j + 1) a b else Wa (V.ed G) j a b)) ⟨rfl, F, N, M.congr (fun a b _ _ => by rw [if_neg (Nat.not_lt_zero _)])⟩ ?_
  clear M N F U
  rintro i _ U K2 hi ⟨rfl, F, N, M⟩ hK2
  have JU := J.keep F (by decide) (by decide) (by decide) (by decide) (by decide) (by decide)
  rw [JU.n]
  (try simp (disch := omega) only [L_le, le_L, L_lt, lt_L, eq_L, L_eq, I_le, I_lt, I_eq, I_ni, add_L, L_add, I_add, mul_L, L_mul, I_mul, sub_L, L_sub, I_sub, div_L, rem_L])
  by_cases e2 : i = 8 * V.n
  · subst e2
    refine brT (Nat.le_refl _) (hK _ _ hj' ⟨rfl, F, N, M.congr (fun a b _ _ => ?_)⟩)
    by_cases ha : a < 8 * V.n
    · rw [if_pos ha]
    · rw [if_neg ha]
      exact ⟨fun hh => absurd hh (Wa.empty (hemp a (by omega))), fun hh => absurd hh (Wa.empty (hemp a (by omega)))⟩
  have hi' : i < 8 * V.n := by omega
  refine brF (by omega) ?_
  refine pt_bit (.inr rfl) (by omega) (by omega) ?_
  have hij : RB (U.a 35) i j = true ↔ Wa (V.ed G) j i j := by
    have h9 : RB (U.a 35) i j = true ↔ (if i < i then Wa (V.ed G) (j + 1) i j else Wa (V.ed G) j i j) := M i j (by omega) (by omega)
    rw [if_neg (Nat.lt_irrefl _)] at h9
    exact h9
  by_cases hb : RB (U.a 35) i j = true
  · rw [if_pos hb]
    refine brF (by decide) ?_
    have hw := hij.1 hb
    refine tlp_cnt 10 (fun w s U3 => s = I w ∧ Tch [34, 35] [] T U3 ∧ NR (U3.a 34) (V.ed G) ∧ NR (U3.a 35) (fun a b => (if a < i then Wa (V.ed G) (j + 1) a b else Wa (V.ed G) j a b) ∨ (a = i ∧ b / 32 < w ∧ Wa (V.ed G) j j b))) ⟨rfl, F, N, M.congr (fun a b _ _ => ⟨.inl, fun hh => hh.elim id (fun ⟨_, hu, _⟩ => absurd hu (Nat.not_lt_zero _))⟩)⟩ ?_
    clear M N F JU hij hb U
    rintro w _ U K3 hw3 ⟨rfl, F, N, M⟩ hK3
    by_cases e3 : w = 10
    · subst e3
      refine brT (by (first | omega | ((try simp (disch := omega) only [L_le, le_L, L_lt, lt_L, eq_L, L_eq, I_le, I_lt, I_eq, I_ni, add_L, L_add, I_add, mul_L, L_mul, I_mul, sub_L, L_sub, I_sub, div_L, rem_L]); done) | ((try simp (disch := omega) only [L_le, le_L, L_lt, lt_L, eq_L, L_eq, I_le, I_lt, I_eq, I_ni, add_L, L_add, I_add, mul_L, L_mul, I_mul, sub_L, L_sub, I_sub, div_L, rem_L]); omega))) ?_
      refine hK2 _ _ hi' ⟨rfl, F, N, M.congr (fun a b _ hb => ?_)⟩
      by_cases ea : a = i
      · subst ea
        rw [if_neg (Nat.lt_irrefl _), if_pos (Nat.lt_succ_self _)]
        constructor
        · rintro (h1 | ⟨_, _, h1⟩)
          · exact .inl h1
          · exact .inr ⟨hw, h1⟩
        · rintro (h1 | ⟨_, h1⟩)
          · exact .inl h1
          · exact .inr ⟨rfl, by omega, h1⟩
      · have : a < i + 1 ↔ a < i := by omega
        by_cases hl : a < i
        · rw [if_pos hl, if_pos (by omega)]
          exact ⟨fun hh => hh.elim id (fun hh => absurd hh.1 ea), .inl⟩
        · rw [if_neg hl, if_neg (by omega)]
          exact ⟨fun hh => hh.elim id (fun hh => absurd hh.1 ea), .inl⟩
    refine brF (by (first | omega | ((try simp (disch := omega) only [L_le, le_L, L_lt, lt_L, eq_L, L_eq, I_le, I_lt, I_eq, I_ni, add_L, L_add, I_add, mul_L, L_mul, I_mul, sub_L, L_sub, I_sub, div_L, rem_L]); done) | ((try simp (disch := omega) only [L_le, le_L, L_lt, lt_L, eq_L, L_eq, I_le, I_lt, I_eq, I_ni, add_L, L_add, I_add, mul_L, L_mul, I_mul, sub_L, L_sub, I_sub, div_L, rem_L]); omega))) ?_
    (try simp (disch := omega) only [L_le, le_L, L_lt, lt_L, eq_L, L_eq, I_le, I_lt, I_eq, I_ni, add_L, L_add, I_add, mul_L, L_mul, I_mul, sub_L, L_sub, I_sub, div_L, rem_L])
    refine ⟨tix_I rfl (by show _ < 3200; omega) (by decide), tix_I rfl (by show _ < 3200; omega) (by decide), tix_I rfl (by show _ < 3200; omega) (by decide), ?_⟩
    intro U4 hU4
    refine hK3 _ _ (by omega) ⟨rfl, by rw [hU4]; exact F.sa (by decide) _ _, by rw [hU4, sa_off _ (by decide)]; exact N, ?_⟩
    rw [hU4, sa_at]
    refine (M.orw (by omega) (by omega) (by omega)).congr (fun a b _ _ => ?_)
    have key : ((if j < i then Wa (V.ed G) (j + 1) j b else Wa (V.ed G) j j b) ∨ (j = i ∧ b / 32 < w ∧ Wa (V.ed G) j j b)) ↔ Wa (V.ed G) j j b := by
      constructor
      · rintro (h1 | h1)
        · by_cases hl : j < i
          · rw [if_pos hl] at h1
            exact h1.elim id (fun hh => hh.2)
          · rw [if_neg hl] at h1; exact h1
        · exact h1.2.2
      · intro h1
        by_cases hl : j < i
        · rw [if_pos hl]; exact .inl (.inl h1)
        · rw [if_neg hl]; exact .inl h1
    rw [key]
    constructor
    · rintro ((h1 | ⟨h1, h2, h3⟩) | ⟨h1, h2, h3⟩)
      · exact .inl h1
      · exact .inr ⟨h1, by omega, h3⟩
      · exact .inr ⟨h1, by omega, h3⟩
    · rintro (h1 | ⟨h1, h2, h3⟩)
      · exact .inl (.inl h1)
      · by_cases hw' : b / 32 = w
        · exact .inr ⟨h1, hw', h3⟩
        · exact .inl (.inr ⟨h1, by omega, h3⟩)
  · rw [if_neg hb]
    refine brT rfl ?_
    refine hK2 _ _ hi' ⟨rfl, F, N, M.congr (fun a b _ _ => ?_)⟩
    by_cases ea : a = i
    · subst ea
      rw [if_neg (Nat.lt_irrefl _), if_pos (Nat.lt_succ_self _)]
      exact ⟨.inl, fun hh => hh.elim id (fun hh => absurd (hij.2 hh.1) hb)⟩
    · by_cases hl : a < i
      · rw [if_pos hl, if_pos (by omega)]
      · rw [if_neg hl, if_neg (by omega)]

/-- who stands for a knot: the first of it. -/
noncomputable def Ist.hd (S : Ist) (i : Nat) : Nat := (cls S.E S.M i).headD i

theorem cls_hd {E : Nat → Nat → Prop} {M i : Nat} (hi : i < M) : ∃ l, cls E M i = (cls E M i).headD i :: l ∧ (cls E M i).headD i ∈ cls E M i ∧ ∀ j, j ∈ cls E M i → (cls E M i).headD i ≤ j := by
  have hp : (cls E M i).Pairwise (fun a b => a < b) := by
    unfold cls
    exact List.Pairwise.filter _ List.pairwise_lt_range
  have hm : i ∈ cls E M i := mem_cls.2 ⟨hi, Rch.refl _, Rch.refl _⟩
  cases hc : cls E M i with
  | nil => rw [hc] at hm; exact absurd hm (by simp)
  | cons a l =>
    rw [hc] at hp
    refine ⟨l, rfl, List.mem_cons_self, fun j hj => ?_⟩
    rcases List.mem_cons.1 hj with e | hj
    · rw [e]; exact Nat.le_refl _
    · exact Nat.le_of_lt ((List.pairwise_cons.1 hp).1 j hj)

theorem Ist.hd_mem (S : Ist) {i : Nat} (hi : S.V i) : S.hd i ∈ cls S.E S.M i := (cls_hd (S.hV i hi)).choose_spec.2.1
theorem Ist.hd_le (S : Ist) {i j : Nat} (hi : S.V i) (hj : j ∈ cls S.E S.M i) : S.hd i ≤ j := (cls_hd (S.hV i hi)).choose_spec.2.2 j hj
theorem Ist.hd_cls (S : Ist) {i j : Nat} (hi : S.V i) (hj : j ∈ cls S.E S.M i) : S.hd j = S.hd i := by
  have e := cls_eq (M := S.M) (mem_cls.1 hj).2.1 (mem_cls.1 hj).2.2
  have hV := S.cls_V hi hj
  apply Nat.le_antisymm
  · exact S.hd_le hV (e ▸ S.hd_mem hi)
  · exact S.hd_le hi (e.symm ▸ S.hd_mem hV)
theorem Ist.hd_iff (S : Ist) {i j : Nat} (hi : S.V i) (hj : S.V j) : S.hd j = S.hd i ↔ j ∈ cls S.E S.M i := by
  constructor
  · intro e
    have h1 := mem_cls.1 (S.hd_mem hi)
    have h2 := mem_cls.1 (S.hd_mem hj)
    rw [e] at h2
    exact mem_cls.2 ⟨S.hV j hj, h1.2.1.trans h2.2.2, h2.2.1.trans h1.2.2⟩
  · exact S.hd_cls hi

/-- knots as the twin lays them. -/
def TwK (T : TS) (S : Ist) : Prop := ∀ i, i < 320 → (S.V i ∧ Trc S.E i i → T.a 29 i = I (S.hd i)) ∧ (¬ (S.V i ∧ Trc S.E i i) → T.a 29 i = -1)

theorem Trc.rch {E : Nat → Nat → Prop} {a b : Nat} (h : Trc E a b) : Rch E a b := Rch.iff.2 (.inr h)
theorem Trc.back {E : Nat → Nat → Prop} {a b : Nat} (h : Trc E a a) (r : Rch E a b) : Trc E a b := by
  rcases Rch.iff.1 r with e | t
  · rw [← e]; exact h
  · exact t
theorem Trc.into {E : Nat → Nat → Prop} {a b : Nat} (h : Trc E a a) (r : Rch E b a) : Trc E b a := by
  rcases Rch.iff.1 r with e | t
  · rw [e]; exact h
  · exact t

/-- a structure is that of a tree. -/
def IsI (S : Ist) (G : Gv) (V : Tv) (gv : Nat → Int32) : Prop :=
  (∀ i, S.V i ↔ V.is G i) ∧
  (S.E = V.ed G) ∧
  (S.M = 8 * V.n) ∧
  (S.F = V.mk G gv)
theorem IsI.vv {S : Ist} {G : Gv} {V : Tv} {gv : Nat → Int32} (h9 : IsI S G V gv) : ∀ i, S.V i ↔ V.is G i := h9.1
theorem IsI.ee {S : Ist} {G : Gv} {V : Tv} {gv : Nat → Int32} (h9 : IsI S G V gv) : S.E = V.ed G := h9.2.1
theorem IsI.mm {S : Ist} {G : Gv} {V : Tv} {gv : Nat → Int32} (h9 : IsI S G V gv) : S.M = 8 * V.n := h9.2.2.1
theorem IsI.ff {S : Ist} {G : Gv} {V : Tv} {gv : Nat → Int32} (h9 : IsI S G V gv) : S.F = V.mk G gv := h9.2.2.2

theorem pt_laysKnots {S : Ist} (IS : IsI S G V gv) (X : V.WF G) (B : TwB T G V) (M : NR (T.a 35) (Trc S.E)) {Q : TS → Prop} (h : ∀ U, Tch [29] [] T U → TwK U S → Q U) : wp_X1_laysKnots T Q := by
  have h40 := X.n40
  have hMM := IS.mm
  unfold wp_X1_laysKnots
  refine tlp_cnt 320 (fun k s U => s = I k ∧ Tch [29] [] T U ∧ ∀ i, i < k → ((S.V i ∧ Trc S.E i i → U.a 29 i = I (S.hd i)) ∧ (¬ (S.V i ∧ Trc S.E i i) → U.a 29 i = -1))) ⟨rfl, Tch.refl T, fun i hi => by omega⟩ ?_
  rintro k _ U K hk ⟨rfl, F, h1⟩ hK
  by_cases e : k = 320
  · subst e
    exact brT (by (first | omega | ((try simp (disch := omega) only [L_le, le_L, L_lt, lt_L, eq_L, L_eq, I_le, I_lt, I_eq, I_ni, add_L, L_add, I_add, mul_L, L_mul, I_mul, sub_L, L_sub, I_sub, div_L, rem_L]); done) | ((try simp (disch := omega) only [L_le, le_L, L_lt, lt_L, eq_L, L_eq, I_le, I_lt, I_eq, I_ni, add_L, L_add, I_add, mul_L, L_mul, I_mul, sub_L, L_sub, I_sub, div_L, rem_L]); omega))) (h U F h1)
  have hk' : k < 320 := by omega
  refine brF (by (first | omega | ((try simp (disch := omega) only [L_le, le_L, L_lt, lt_L, eq_L, L_eq, I_le, I_lt, I_eq, I_ni, add_L, L_add, I_add, mul_L, L_mul, I_mul, sub_L, L_sub, I_sub, div_L, rem_L]); done) | ((try simp (disch := omega) only [L_le, le_L, L_lt, lt_L, eq_L, L_eq, I_le, I_lt, I_eq, I_ni, add_L, L_add, I_add, mul_L, L_mul, I_mul, sub_L, L_sub, I_sub, div_L, rem_L]); omega))) ?_
  (try simp (disch := omega) only [L_le, le_L, L_lt, lt_L, eq_L, L_eq, I_le, I_lt, I_eq, I_ni, add_L, L_add, I_add, mul_L, L_mul, I_mul, sub_L, L_sub, I_sub, div_L, rem_L])
  refine ⟨tix_I rfl (by show _ < 320; omega) (by decide), ?_⟩
  intro U1 hU1
  have F1 : Tch [29] [] T U1 := by rw [hU1]; exact F.sa (by decide) _ _
  have a29 : U1.a 29 = updN (U.a 29) k (-1) := by rw [hU1, sa_at]
  have B1 := B.keep F1 (by decide) (by decide) (by decide)
  have M1 : NR (U1.a 35) (Trc S.E) := by rw [F1.a 35 (by decide)]; exact M
  clear hU1
  have hno : ¬ (S.V k ∧ Trc S.E k k) → K (I (k + 1)) U1 := by
    intro hn
    refine hK _ _ hk' ⟨rfl, F1, fun i hi => ?_⟩
    rw [a29]
    by_cases ei : i = k
    · subst ei
      rw [updN_same]
      exact ⟨fun hh => absurd hh hn, fun _ => rfl⟩
    · rw [updN_ne _ _ ei]; exact h1 i (by omega)
  refine ⟨tix_I rfl (by show _ < 320; omega) (by decide), ?_⟩
  rw [B1.th k hk']
  by_cases his : S.V k
  rotate_left
  · rw [iP_neg (fun hh => his ((IS.vv k).2 hh))]
    exact brT rfl (hno (fun hh => his hh.1))
  rw [iP_pos ((IS.vv k).1 his)]
  refine brF (by decide) ?_
  refine pt_bit (.inr rfl) hk' hk' ?_
  have hkk := M1 k k hk' hk'
  by_cases hb : RB (U1.a 35) k k = true
  rotate_left
  · rw [if_neg hb]
    exact brT rfl (hno (fun hh => hb (hkk.2 hh.2)))
  rw [if_pos hb]
  have htr := hkk.1 hb
  refine brF (by decide) ?_
  have hlt := X.isLt ((IS.vv k).1 his)
  have hm := mem_cls.1 (S.hd_mem his)
  have hle := S.hd_le his (S.cls_self his)
  refine tlp_cnt (S.hd k) (fun j s U2 => s = I j ∧ U2 = U1) ⟨rfl, rfl⟩ ?_
  intro j s U2 K2 hj hh hK2
  obtain ⟨hs, hU⟩ := hh
  rw [hs, hU]
  clear hs hU s U2
  (try simp (disch := omega) only [L_le, le_L, L_lt, lt_L, eq_L, L_eq, I_le, I_lt, I_eq, I_ni, add_L, L_add, I_add, mul_L, L_mul, I_mul, sub_L, L_sub, I_sub, div_L, rem_L])
  refine ⟨tix_I rfl (by show _ < 320; omega) (by decide), ?_⟩
  rw [B1.th j (by omega)]
  by_cases ej : j = S.hd k
  · have hjs : S.V j := by rw [ej]; exact S.cls_V his (S.hd_mem his)
    rw [← ej] at hm
    rw [iP_pos ((IS.vv j).1 hjs)]
    refine brF (by decide) ?_
    refine pt_bit (.inr rfl) hk' (by omega) ?_
    rw [if_pos ((M1 k j hk' (by omega)).2 (htr.back hm.2.1))]
    refine brF (by decide) ?_
    refine pt_bit (.inr rfl) (by omega) hk' ?_
    rw [if_pos ((M1 j k (by omega) hk').2 (htr.into hm.2.2))]
    refine brF (by decide) ⟨tix_I rfl (by show _ < 320; omega) (by decide), ?_⟩
    intro U3 hU3
    refine hK _ _ hk' ⟨rfl, by rw [hU3]; exact F1.sa (by decide) _ _, fun i hi => ?_⟩
    rw [hU3, sa_at]
    by_cases ei : i = k
    · subst ei
      rw [updN_same, ← ej]
      exact ⟨fun _ => rfl, fun hh => absurd ⟨his, htr⟩ hh⟩
    · rw [updN_ne _ _ ei, a29, updN_ne _ _ ei]; exact h1 i (by omega)
  have hj' : j < S.hd k := by omega
  have hgo := hK2 (I (j + 1)) U1 hj' ⟨rfl, rfl⟩
  have hnm : ¬ (Trc S.E k j ∧ Trc S.E j k) := fun hh => by
    have := S.hd_le his (j := j) (mem_cls.2 ⟨by rw [hMM]; omega, hh.1.rch, hh.2.rch⟩)
    omega
  by_cases hjs : S.V j
  rotate_left
  · rw [iP_neg (fun hh => hjs ((IS.vv j).2 hh))]
    exact brT rfl hgo
  rw [iP_pos ((IS.vv j).1 hjs)]
  refine brF (by decide) ?_
  refine pt_bit (.inr rfl) hk' (by omega) ?_
  by_cases hb1 : RB (U1.a 35) k j = true
  rotate_left
  · rw [if_neg hb1]
    exact brT rfl hgo
  rw [if_pos hb1]
  refine brF (by decide) ?_
  refine pt_bit (.inr rfl) (by omega) hk' ?_
  by_cases hb2 : RB (U1.a 35) j k = true
  rotate_left
  · rw [if_neg hb2]
    exact brT rfl hgo
  exact absurd ⟨(M1 k j hk' (by omega)).1 hb1, (M1 j k (by omega) hk').1 hb2⟩ hnm
end
