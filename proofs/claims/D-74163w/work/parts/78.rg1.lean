/-! plain: rg1 rg2 -/
set_option maxRecDepth 100000
section
variable {r : Nat → Int32} {g : Nat}

/-- the shortest way to a goal. -/
def isD (r : Nat → Int32) (g o d : Nat) : Prop := 1 ≤ d ∧ RchN (Rw r) d o g ∧ ∀ d', 1 ≤ d' → d' < d → ¬ RchN (Rw r) d' o g

theorem isD.uniq {o d d' : Nat} (h : isD r g o d) (h' : isD r g o d') : d = d' := by
  rcases Nat.lt_trichotomy d d' with l | e | l
  · exact absurd h.2.1 (h'.2.2 d h.1 l)
  · exact e
  · exact absurd h'.2.1 (h.2.2 d' h'.1 l)

theorem RchN.least {E : Nat → Nat → Prop} {o g : Nat} : ∀ (n : Nat), (∃ d, 1 ≤ d ∧ d < n ∧ RchN E d o g) → ∃ d, 1 ≤ d ∧ d < n ∧ RchN E d o g ∧ ∀ d', 1 ≤ d' → d' < d → ¬ RchN E d' o g
  | 0, ⟨_, _, h, _⟩ => absurd h (Nat.not_lt_zero _)
  | n + 1, ⟨d, h1, h2, h3⟩ => by
    by_cases hx : ∃ d, 1 ≤ d ∧ d < n ∧ RchN E d o g
    · obtain ⟨d', a, b, c, e⟩ := RchN.least n hx
      exact ⟨d', a, by omega, c, e⟩
    · refine ⟨d, h1, h2, h3, fun d' a b hh => hx ⟨d', a, by omega, hh⟩⟩

theorem isD.of {o d : Nat} (hd : 1 ≤ d) (h : RchN (Rw r) d o g) : ∃ d', d' ≤ d ∧ isD r g o d' := by
  obtain ⟨d', a, b, c, e⟩ := RchN.least (E := Rw r) (o := o) (g := g) (d + 1) ⟨d, hd, Nat.lt_succ_self _, h⟩
  exact ⟨d', by omega, a, c, e⟩

theorem isD.next {o d : Nat} (h : isD r g o (d + 1)) (hd : 1 ≤ d) : ∃ c, c < 32 ∧ Rw r o c ∧ isD r g c d := by
  obtain ⟨c, hc, hr⟩ := h.2.1
  exact ⟨c, hc.lt, hc, hd, hr, fun d' a b hh => h.2.2 (d' + 1) (by omega) (by omega) ⟨c, hc, hh⟩⟩

theorem isD.all {o d : Nat} (h : isD r g o d) (ho : o < 32) : ∀ k, k < d → ∃ c, c < 32 ∧ isD r g c (d - k)
  | 0, _ => ⟨o, ho, h⟩
  | k + 1, hk => by
    obtain ⟨c, hc, hd⟩ := isD.all h ho k (by omega)
    rw [show d - k = (d - (k + 1)) + 1 by omega] at hd
    obtain ⟨c', a, _, b⟩ := hd.next (by omega)
    exact ⟨c', a, b⟩

theorem cnP_ge1 (n : Nat) : cnP (fun j => 1 ≤ j) (n + 1) = n := by
  induction n with
  | zero => rw [cnP_neg (by omega), cnP_zero]
  | succ n ih => rw [cnP_pos (by omega), ih]

/-- it is no longer than there are occs. -/
theorem isD.le {o d : Nat} (h : isD r g o d) (ho : o < 32) : d ≤ 32 := by
  have hch : ∀ j, ∃ c, 1 ≤ j → j ≤ d → c < 32 ∧ isD r g c j := fun j => by
    by_cases hj : 1 ≤ j ∧ j ≤ d
    · obtain ⟨c, a, b⟩ := h.all ho (d - j) (by omega)
      rw [show d - (d - j) = j by omega] at b
      exact ⟨c, fun _ _ => ⟨a, b⟩⟩
    · exact ⟨0, fun a b => absurd ⟨a, b⟩ hj⟩
  have hf := fun j (h1 : 1 ≤ j) (h2 : j < d + 1) => (hch j).choose_spec h1 (by omega)
  have e := cnP_bij (m := d + 1) (P := fun j => 1 ≤ j) (Q := fun c => ∃ j, 1 ≤ j ∧ j < d + 1 ∧ (hch j).choose = c) (f := fun j => (hch j).choose) (m' := 32)
    (fun k hk hp => ⟨(hf k hp hk).1, k, hp, hk, rfl⟩)
    (fun j k hj hk pj pk e => by
      have a := (hf j pj hj).2
      have b := (hf k pk hk).2
      have e' : (hch j).choose = (hch k).choose := e
      rw [e'] at a
      exact a.uniq b)
    (fun i hi ⟨j, a, b, c⟩ => ⟨j, b, a, c⟩)
  rw [cnP_ge1] at e
  have := cnP_le (fun c => ∃ j, 1 ≤ j ∧ j < d + 1 ∧ (hch j).choose = c) 32
  omega

/-- what is found of ways. -/
def FarP (r : Nat → Int32) (g : Nat) (f : Nat → Nat) : Prop := ∀ o, o < 32 → 1 ≤ f o ∧ (f o ≤ 32 → RchN (Rw r) (f o) o g) ∧ ∀ d, 1 ≤ d → d ≤ 32 → RchN (Rw r) d o g → f o ≤ d
theorem FarP.iff {f : Nat → Nat} (F : FarP r g f) {o d : Nat} (ho : o < 32) (hd : d ≤ 32) (h1 : 1 ≤ d) : f o = d ↔ isD r g o d := by
  obtain ⟨a, b, c⟩ := F o ho
  constructor
  · intro e
    rw [e] at b c
    exact ⟨h1, b hd, fun d' x y hh => by have := c d' x (by omega) hh; omega⟩
  · intro h
    have h2 := c d h1 hd h.2.1
    have h3 := b (by omega)
    rcases Nat.lt_or_ge (f o) d with l | l
    · exact absurd h3 (h.2.2 _ a l)
    · omega

/-- how long the ring is, and its occs. -/
noncomputable def rlen (r : Nat → Int32) (g : Nat) : Nat := (fstN (fun d => @decide (isD r g g d) (Classical.propDecidable _)) 33).getD 0
noncomputable def rnx (r : Nat → Int32) (g x j : Nat) : Nat := (fstN (fun c => @decide (Rw r x c ∧ isD r g c j) (Classical.propDecidable _)) 32).getD 0
noncomputable def ring (r : Nat → Int32) (g n : Nat) : Nat → Nat
  | 0 => g
  | i + 1 => rnx r g (ring r g n i) (n - i - 1)

theorem rlen_ok (hg : g < 32) (h : Trc (Rw r) g g) : isD r g g (rlen r g) ∧ rlen r g ≤ 32 := by
  obtain ⟨c, hc, n, hn⟩ := h
  obtain ⟨d, _, hd⟩ := isD.of (r := r) (g := g) (o := g) (d := n + 1) (by omega) ⟨c, hc, hn⟩
  have hl := hd.le hg
  have e : fstN (fun d => @decide (isD r g g d) (Classical.propDecidable _)) 33 = some d := by
    refine fstN_some.2 ⟨by omega, @decide_eq_true _ (_) hd, fun j hj => @decide_eq_false _ (_) (fun hh => ?_)⟩
    have := hh.uniq hd
    omega
  unfold rlen
  rw [e]
  exact ⟨hd, hl⟩

theorem rnx_ok {x j : Nat} (h : isD r g x (j + 1)) (hj : 1 ≤ j) : rnx r g x j < 32 ∧ Rw r x (rnx r g x j) ∧ isD r g (rnx r g x j) j ∧ ∀ c, c < rnx r g x j → ¬ (Rw r x c ∧ isD r g c j) := by
  obtain ⟨c, h1, h2, h3⟩ := h.next hj
  unfold rnx
  cases hf : fstN (fun c => @decide (Rw r x c ∧ isD r g c j) (Classical.propDecidable _)) 32 with
  | none =>
    have := fstN_none.1 hf c h1
    exact absurd ⟨h2, h3⟩ (@of_decide_eq_false _ (_) this)
  | some k =>
    obtain ⟨a, b, e⟩ := fstN_some.1 hf
    have b' := @of_decide_eq_true _ (_) b
    exact ⟨a, b'.1, b'.2, fun c hc => @of_decide_eq_false _ (_) (e c hc)⟩

theorem ring_ok {n : Nat} (hg : g < 32) (h : isD r g g n) : ∀ i, i < n → ring r g n i < 32 ∧ isD r g (ring r g n i) (n - i)
  | 0, _ => ⟨hg, h⟩
  | i + 1, hi => by
    have ih := ring_ok hg h i (by omega)
    have e : n - i = (n - i - 1) + 1 := by omega
    rw [e] at ih
    have := rnx_ok ih.2 (by omega)
    show rnx r g (ring r g n i) (n - i - 1) < 32 ∧ isD r g (rnx r g (ring r g n i) (n - i - 1)) (n - (i + 1))
    rw [show n - (i + 1) = n - i - 1 by omega]
    exact ⟨this.1, this.2.2.1⟩
theorem ring_nx {n : Nat} (hg : g < 32) (h : isD r g g n) {i : Nat} (hi : i + 1 < n) : Rw r (ring r g n i) (ring r g n (i + 1)) ∧ isD r g (ring r g n (i + 1)) (n - i - 1) ∧ ∀ c, c < ring r g n (i + 1) → ¬ (Rw r (ring r g n i) c ∧ isD r g c (n - i - 1)) := by
  have ih := ring_ok hg h i (by omega)
  have e : n - i = (n - i - 1) + 1 := by omega
  rw [e] at ih
  have := rnx_ok ih.2 (by omega)
  exact ⟨this.2.1, this.2.2.1, this.2.2.2⟩
theorem Rw.congr {r' : Nat → Int32} (h : ∀ o, o < 32 → r o = r' o) : Rw r = Rw r' :=
  funext fun a => funext fun b => propext ⟨fun x => ⟨x.1, by rw [← h a x.1]; exact x.2⟩, fun x => ⟨x.1, by rw [h a x.1]; exact x.2⟩⟩
end
section
variable {G : Gv} {T : TS}

theorem pt_laysRing {g : Nat} (hg : g < 32) (hs : Trc (Rw (T.a 6)) g g) {Q : TS → Prop} (h : ∀ U, Tch [8, 9] [227] T U → U.s 227 = I (rlen (T.a 6) g) → (∀ i, i < rlen (T.a 6) g → U.a 9 i = I (ring (T.a 6) g (rlen (T.a 6) g) i)) → Q U) : wp_X1_laysRing (I g) T Q := by
  obtain ⟨hn, hn32⟩ := rlen_ok hg hs
  unfold wp_X1_laysRing
  refine tlp_cnt 32 (fun k s U => s = I k ∧ Tch [8, 9] [227] T U ∧ ∀ o, o < k → U.a 8 o = I (if bt (T.a 6 o) g = true then 1 else 1000)) ⟨rfl, Tch.refl T, fun o ho => by omega⟩ ?_
  intro k s U K hk hh hK
  obtain ⟨hs', F, h1⟩ := hh
  rw [hs']
  clear hs' s
  by_cases e : k = 32
  rotate_left
  · refine brF (by (first | omega | ((try simp (disch := omega) only [L_le, le_L, L_lt, lt_L, eq_L, L_eq, I_le, I_lt, I_eq, I_ni, add_L, L_add, I_add, mul_L, L_mul, I_mul, sub_L, L_sub, I_sub, div_L, rem_L]); done) | ((try simp (disch := omega) only [L_le, le_L, L_lt, lt_L, eq_L, L_eq, I_le, I_lt, I_eq, I_ni, add_L, L_add, I_add, mul_L, L_mul, I_mul, sub_L, L_sub, I_sub, div_L, rem_L]); omega))) ⟨tix_I rfl (by show _ < 32; omega) (by decide), ?_⟩
    rw [I_ni (by omega), F.a 6 (by decide)]
    refine pt_has hg ?_
    intro m hm
    refine ⟨tix_I rfl (by show _ < 32; omega) (by decide), ?_⟩
    intro U1 hU1
    (try simp (disch := omega) only [L_le, le_L, L_lt, lt_L, eq_L, L_eq, I_le, I_lt, I_eq, I_ni, add_L, L_add, I_add, mul_L, L_mul, I_mul, sub_L, L_sub, I_sub, div_L, rem_L])
    refine hK _ _ (by omega) ⟨rfl, by rw [hU1]; exact F.sa (by decide) _ _, fun o ho => ?_⟩
    rw [hU1, sa_at]
    by_cases eo : o = k
    · rw [eo, updN_same, hm]
      by_cases hb : bt (T.a 6 k) g = true
      · rw [if_pos hb, if_pos hb]; rfl
      · rw [if_neg hb, if_neg hb]; rfl
    · rw [updN_ne _ _ eo]; exact h1 o (by omega)
  refine brT (by (first | omega | ((try simp (disch := omega) only [L_le, le_L, L_lt, lt_L, eq_L, L_eq, I_le, I_lt, I_eq, I_ni, add_L, L_add, I_add, mul_L, L_mul, I_mul, sub_L, L_sub, I_sub, div_L, rem_L]); done) | ((try simp (disch := omega) only [L_le, le_L, L_lt, lt_L, eq_L, L_eq, I_le, I_lt, I_eq, I_ni, add_L, L_add, I_add, mul_L, L_mul, I_mul, sub_L, L_sub, I_sub, div_L, rem_L]); omega))) ?_
  -- rounds
  have F0 : ∃ f : Nat → Nat, (∀ o, o < 32 → U.a 8 o = I (f o)) ∧ (∀ o, o < 32 → 1 ≤ f o ∧ f o ≤ 1000 ∧ (f o < 1000 → RchN (Rw (T.a 6)) (f o) o g)) ∧ ∀ o, o < 32 → ∀ d, 1 ≤ d → d ≤ 0 + 1 → RchN (Rw (T.a 6)) d o g → f o ≤ d := by
    refine ⟨fun o => if bt (T.a 6 o) g = true then 1 else 1000, fun o ho => h1 o (by omega), fun o ho => ?_, fun o ho d d1 d2 hr => ?_⟩
    · show 1 ≤ (if bt (T.a 6 o) g = true then 1 else 1000) ∧ (if bt (T.a 6 o) g = true then 1 else 1000) ≤ 1000 ∧ ((if bt (T.a 6 o) g = true then 1 else 1000) < 1000 → RchN (Rw (T.a 6)) (if bt (T.a 6 o) g = true then 1 else 1000) o g)
      by_cases hb : bt (T.a 6 o) g = true
      · rw [if_pos hb]
        exact ⟨by omega, by omega, fun _ => ⟨g, ⟨ho, hb⟩, rfl⟩⟩
      · rw [if_neg hb]
        exact ⟨by omega, by omega, fun hh => absurd hh (by omega)⟩
    · have : d = 1 := by omega
      subst this
      obtain ⟨c, hc, hc'⟩ := hr
      have hc'' : c = g := hc'
      rw [hc''] at hc
      show (if bt (T.a 6 o) g = true then 1 else 1000) ≤ 1
      rw [if_pos hc.2]
      omega
  clear h1 hK K hk e k
  refine tlp_cnt 32 (fun k s U => s = I k ∧ Tch [8, 9] [227] T U ∧ ∃ f : Nat → Nat, (∀ o, o < 32 → U.a 8 o = I (f o)) ∧ (∀ o, o < 32 → 1 ≤ f o ∧ f o ≤ 1000 ∧ (f o < 1000 → RchN (Rw (T.a 6)) (f o) o g)) ∧ ∀ o, o < 32 → ∀ d, 1 ≤ d → d ≤ k + 1 → RchN (Rw (T.a 6)) d o g → f o ≤ d) ⟨rfl, F, F0⟩ ?_
  clear F0 F U
  intro k s U K hk hh hK
  obtain ⟨hs', F, f, f1, f2, f3⟩ := hh
  rw [hs']
  clear hs' s
  by_cases e : k = 32
  · refine brT (by (first | omega | ((try simp (disch := omega) only [L_le, le_L, L_lt, lt_L, eq_L, L_eq, I_le, I_lt, I_eq, I_ni, add_L, L_add, I_add, mul_L, L_mul, I_mul, sub_L, L_sub, I_sub, div_L, rem_L]); done) | ((try simp (disch := omega) only [L_le, le_L, L_lt, lt_L, eq_L, L_eq, I_le, I_lt, I_eq, I_ni, add_L, L_add, I_add, mul_L, L_mul, I_mul, sub_L, L_sub, I_sub, div_L, rem_L]); omega))) ⟨tix_I rfl (by show _ < 32; omega) (by decide), ?_⟩
    rw [I_ni (by omega), f1 g hg]
    have FP : FarP (T.a 6) g f := fun o ho => ⟨(f2 o ho).1, fun hl => (f2 o ho).2.2 (by omega), fun d d1 d2 hr => f3 o ho d d1 (by omega) hr⟩
    rw [(FP.iff hg hn32 hn.1).2 hn]
    intro U1 hU1
    have F1 : Tch [8, 9] [227] T U1 := by rw [hU1]; exact F.ss (by decide) _
    have s1 : U1.s 227 = I (rlen (T.a 6) g) := by rw [hU1, ss_s, if_pos rfl]
    have a1 : ∀ o, o < 32 → U1.a 8 o = I (f o) := fun o ho => by rw [hU1, ss_a]; exact f1 o ho
    refine tlp_cnt (rlen (T.a 6) g) (fun i s U2 => (∃ z, s = (I z, I i) ∧ (i < rlen (T.a 6) g → z = ring (T.a 6) g (rlen (T.a 6) g) i)) ∧ Tch [9] [] U1 U2 ∧ ∀ j, j < i → U2.a 9 j = I (ring (T.a 6) g (rlen (T.a 6) g) j)) ⟨⟨g, rfl, fun _ => rfl⟩, Tch.refl U1, fun j hj => by omega⟩ ?_
    intro i s U2 K2 hi hh hK2
    obtain ⟨⟨z, hs', hz⟩, F2, r2⟩ := hh
    rw [hs']
    clear hs' s
    have s2 : U2.s 227 = I (rlen (T.a 6) g) := (F2.s 227 (by decide)).trans s1
    rw [s2]
    by_cases ei : i = rlen (T.a 6) g
    · refine brT (by (first | omega | ((try simp (disch := omega) only [L_le, le_L, L_lt, lt_L, eq_L, L_eq, I_le, I_lt, I_eq, I_ni, add_L, L_add, I_add, mul_L, L_mul, I_mul, sub_L, L_sub, I_sub, div_L, rem_L]); done) | ((try simp (disch := omega) only [L_le, le_L, L_lt, lt_L, eq_L, L_eq, I_le, I_lt, I_eq, I_ni, add_L, L_add, I_add, mul_L, L_mul, I_mul, sub_L, L_sub, I_sub, div_L, rem_L]); omega))) ?_
      refine h U2 (F1.trans (F2.mono (by decide) (by decide))) s2 (fun j hj => r2 j (by omega))
    have hi' : i < rlen (T.a 6) g := by omega
    have hz' := hz hi'
    subst hz'
    obtain ⟨ro1, ro2⟩ := ring_ok hg hn i hi'
    refine brF (by (first | omega | ((try simp (disch := omega) only [L_le, le_L, L_lt, lt_L, eq_L, L_eq, I_le, I_lt, I_eq, I_ni, add_L, L_add, I_add, mul_L, L_mul, I_mul, sub_L, L_sub, I_sub, div_L, rem_L]); done) | ((try simp (disch := omega) only [L_le, le_L, L_lt, lt_L, eq_L, L_eq, I_le, I_lt, I_eq, I_ni, add_L, L_add, I_add, mul_L, L_mul, I_mul, sub_L, L_sub, I_sub, div_L, rem_L]); omega))) ⟨tix_I rfl (by show _ < 32; omega) (by decide), ?_⟩
    intro U3 hU3
    rw [I_ni (by omega)] at hU3
    have F3 : Tch [9] [] U1 U3 := by rw [hU3]; exact F2.sa (by decide) _ _
    have r3 : ∀ j, j < i + 1 → U3.a 9 j = I (ring (T.a 6) g (rlen (T.a 6) g) j) := fun j hj => by
      rw [hU3, sa_at]
      by_cases ej : j = i
      · rw [ej, updN_same]
      · rw [updN_ne _ _ ej]; exact r2 j (by omega)
    have s3 : U3.s 227 = I (rlen (T.a 6) g) := (F3.s 227 (by decide)).trans s1
    have a63 : U3.a 6 = T.a 6 := by rw [F3.a 6 (by decide), F1.a 6 (by decide)]
    have a83 : ∀ o, o < 32 → U3.a 8 o = I (f o) := fun o ho => by rw [F3.a 8 (by decide)]; exact a1 o ho
    by_cases el : i + 1 = rlen (T.a 6) g
    · refine tlp_cnt 0 (fun c s U4 => s = I 0 ∧ U4 = U3) ⟨rfl, rfl⟩ ?_
      intro c s U4 K3 hc hh hK3
      obtain ⟨hs', hU4⟩ := hh
      rw [hs', hU4, s3]
      (try simp (disch := omega) only [L_le, le_L, L_lt, lt_L, eq_L, L_eq, I_le, I_lt, I_eq, I_ni, add_L, L_add, I_add, mul_L, L_mul, I_mul, sub_L, L_sub, I_sub, div_L, rem_L])
      refine brT (by omega) (hK2 _ _ hi' ⟨⟨0, rfl, fun hh => by omega⟩, F3, r3⟩)
    obtain ⟨n1, n2, n3⟩ := ring_nx hg hn (show i + 1 < rlen (T.a 6) g by omega)
    have n1l := n1.lt
    refine tlp_cnt (ring (T.a 6) g (rlen (T.a 6) g) (i + 1)) (fun c s U4 => s = I c ∧ U4 = U3) ⟨rfl, rfl⟩ ?_
    intro c s U4 K3 hc hh hK3
    obtain ⟨hs', hU4⟩ := hh
    rw [hs', hU4, s3]
    clear hs' hU4 s U4
    (try simp (disch := omega) only [L_le, le_L, L_lt, lt_L, eq_L, L_eq, I_le, I_lt, I_eq, I_ni, add_L, L_add, I_add, mul_L, L_mul, I_mul, sub_L, L_sub, I_sub, div_L, rem_L])
    refine brF (by omega) ⟨tix_I rfl (by show _ < 32; omega) (by decide), ?_⟩
    rw [a63]
    refine pt_has (by omega) ?_
    have hd : ∀ c, c < 32 → (U3.a 8 c = I (rlen (T.a 6) g - i - 1) ↔ isD (T.a 6) g c (rlen (T.a 6) g - i - 1)) := fun c hc => by
      rw [a83 c hc, I_eq (by have := (f2 c hc).2.1; omega) (by omega)]
      exact FP.iff hc (by omega) (by omega)
    by_cases ec : c = ring (T.a 6) g (rlen (T.a 6) g) (i + 1)
    · subst ec
      rw [if_pos n1.2]
      refine brF (by decide) ⟨tix_I rfl (by show _ < 32; omega) (by decide), ?_⟩
      rw [s3]
      (try simp (disch := omega) only [L_le, le_L, L_lt, lt_L, eq_L, L_eq, I_le, I_lt, I_eq, I_ni, add_L, L_add, I_add, mul_L, L_mul, I_mul, sub_L, L_sub, I_sub, div_L, rem_L])
      exact brT ((hd _ n1l).2 n2) (hK2 _ _ hi' ⟨⟨_, rfl, fun _ => rfl⟩, F3, r3⟩)
    have hc' : c < ring (T.a 6) g (rlen (T.a 6) g) (i + 1) := by omega
    have hgo := hK3 (I (c + 1)) U3 hc' ⟨rfl, rfl⟩
    by_cases hb : bt (T.a 6 (ring (T.a 6) g (rlen (T.a 6) g) i)) c = true
    · rw [if_pos hb]
      refine brF (by decide) ⟨tix_I rfl (by show _ < 32; omega) (by decide), ?_⟩
      rw [s3]
      (try simp (disch := omega) only [L_le, le_L, L_lt, lt_L, eq_L, L_eq, I_le, I_lt, I_eq, I_ni, add_L, L_add, I_add, mul_L, L_mul, I_mul, sub_L, L_sub, I_sub, div_L, rem_L])
      exact brF (fun hh => n3 c hc' ⟨⟨ro1, hb⟩, (hd c (by omega)).1 hh⟩) hgo
    · rw [if_neg hb]
      exact brT rfl hgo
  -- one round
  have hk' : k < 32 := by omega
  refine brF (by (first | omega | ((try simp (disch := omega) only [L_le, le_L, L_lt, lt_L, eq_L, L_eq, I_le, I_lt, I_eq, I_ni, add_L, L_add, I_add, mul_L, L_mul, I_mul, sub_L, L_sub, I_sub, div_L, rem_L]); done) | ((try simp (disch := omega) only [L_le, le_L, L_lt, lt_L, eq_L, L_eq, I_le, I_lt, I_eq, I_ni, add_L, L_add, I_add, mul_L, L_mul, I_mul, sub_L, L_sub, I_sub, div_L, rem_L]); omega))) ?_
  refine tlp_cnt 32 (fun o s U2 => s = I o ∧ Tch [8, 9] [227] T U2 ∧ ∃ f' : Nat → Nat, (∀ o, o < 32 → U2.a 8 o = I (f' o)) ∧ (∀ o, o < 32 → 1 ≤ f' o ∧ f' o ≤ f o ∧ (f' o < 1000 → RchN (Rw (T.a 6)) (f' o) o g)) ∧ ∀ o', o' < o → ∀ x, Rw (T.a 6) o' x → f' o' ≤ f x + 1) ⟨rfl, F, f, f1, fun o ho => ⟨(f2 o ho).1, Nat.le_refl _, (f2 o ho).2.2⟩, fun o' ho => absurd ho (Nat.not_lt_zero _)⟩ ?_
  clear F f1 U
  intro o s U K2 ho hh hK2
  obtain ⟨hs', F, f', g1, g2, g3⟩ := hh
  rw [hs']
  clear hs' s
  by_cases e2 : o = 32
  · refine brT (by (first | omega | ((try simp (disch := omega) only [L_le, le_L, L_lt, lt_L, eq_L, L_eq, I_le, I_lt, I_eq, I_ni, add_L, L_add, I_add, mul_L, L_mul, I_mul, sub_L, L_sub, I_sub, div_L, rem_L]); done) | ((try simp (disch := omega) only [L_le, le_L, L_lt, lt_L, eq_L, L_eq, I_le, I_lt, I_eq, I_ni, add_L, L_add, I_add, mul_L, L_mul, I_mul, sub_L, L_sub, I_sub, div_L, rem_L]); omega))) ?_
    (try simp (disch := omega) only [L_le, le_L, L_lt, lt_L, eq_L, L_eq, I_le, I_lt, I_eq, I_ni, add_L, L_add, I_add, mul_L, L_mul, I_mul, sub_L, L_sub, I_sub, div_L, rem_L])
    refine hK _ _ hk' ⟨rfl, F, f', g1, fun o ho => ⟨(g2 o ho).1, by have := (g2 o ho).2.1; have := (f2 o ho).2.1; omega, (g2 o ho).2.2⟩, fun o9 ho9 d d1 d2 hr => ?_⟩
    by_cases hd : d ≤ k + 1
    · have := f3 o9 ho9 d d1 hd hr
      have := (g2 o9 ho9).2.1
      omega
    · have ed : d = (k + 1) + 1 := by omega
      subst ed
      obtain ⟨c, hc, hr'⟩ := hr
      have a := g3 o9 (by omega) c hc
      have b := f3 c hc.lt (k + 1) (by omega) (by omega) hr'
      omega
  have ho' : o < 32 := by omega
  refine brF (by (first | omega | ((try simp (disch := omega) only [L_le, le_L, L_lt, lt_L, eq_L, L_eq, I_le, I_lt, I_eq, I_ni, add_L, L_add, I_add, mul_L, L_mul, I_mul, sub_L, L_sub, I_sub, div_L, rem_L]); done) | ((try simp (disch := omega) only [L_le, le_L, L_lt, lt_L, eq_L, L_eq, I_le, I_lt, I_eq, I_ni, add_L, L_add, I_add, mul_L, L_mul, I_mul, sub_L, L_sub, I_sub, div_L, rem_L]); omega))) ?_
  refine tlp_cnt 32 (fun x s U2 => s = I x ∧ Tch [8, 9] [227] T U2 ∧ ∃ f'' : Nat → Nat, (∀ o, o < 32 → U2.a 8 o = I (f'' o)) ∧ (∀ o, o < 32 → 1 ≤ f'' o ∧ f'' o ≤ f o ∧ (f'' o < 1000 → RchN (Rw (T.a 6)) (f'' o) o g)) ∧ (∀ o', o' < o → ∀ x, Rw (T.a 6) o' x → f'' o' ≤ f x + 1) ∧ ∀ x', x' < x → Rw (T.a 6) o x' → f'' o ≤ f x' + 1) ⟨rfl, F, f', g1, g2, g3, fun x' hx => absurd hx (Nat.not_lt_zero _)⟩ ?_
  clear F g1 g2 g3 f' U
  intro x s U K3 hx hh hK3
  obtain ⟨hs', F, f', g1, g2, g3, g4⟩ := hh
  rw [hs']
  clear hs' s
  by_cases e3 : x = 32
  · refine brT (by (first | omega | ((try simp (disch := omega) only [L_le, le_L, L_lt, lt_L, eq_L, L_eq, I_le, I_lt, I_eq, I_ni, add_L, L_add, I_add, mul_L, L_mul, I_mul, sub_L, L_sub, I_sub, div_L, rem_L]); done) | ((try simp (disch := omega) only [L_le, le_L, L_lt, lt_L, eq_L, L_eq, I_le, I_lt, I_eq, I_ni, add_L, L_add, I_add, mul_L, L_mul, I_mul, sub_L, L_sub, I_sub, div_L, rem_L]); omega))) ?_
    (try simp (disch := omega) only [L_le, le_L, L_lt, lt_L, eq_L, L_eq, I_le, I_lt, I_eq, I_ni, add_L, L_add, I_add, mul_L, L_mul, I_mul, sub_L, L_sub, I_sub, div_L, rem_L])
    refine hK2 _ _ ho' ⟨rfl, F, f', g1, g2, fun o' hl x' hr => ?_⟩
    by_cases eo : o' = o
    · subst eo
      exact g4 x' (by have := hr.lt; omega) hr
    · exact g3 o' (by omega) x' hr
  have hx' : x < 32 := by omega
  refine brF (by (first | omega | ((try simp (disch := omega) only [L_le, le_L, L_lt, lt_L, eq_L, L_eq, I_le, I_lt, I_eq, I_ni, add_L, L_add, I_add, mul_L, L_mul, I_mul, sub_L, L_sub, I_sub, div_L, rem_L]); done) | ((try simp (disch := omega) only [L_le, le_L, L_lt, lt_L, eq_L, L_eq, I_le, I_lt, I_eq, I_ni, add_L, L_add, I_add, mul_L, L_mul, I_mul, sub_L, L_sub, I_sub, div_L, rem_L]); omega))) ⟨tix_I rfl (by show _ < 32; omega) (by decide), ?_⟩
  rw [I_ni (by omega), F.a 6 (by decide)]
  refine pt_has hx' ?_
  by_cases hb : bt (T.a 6 o) x = true
  rotate_left
  · rw [if_neg hb]
    refine brT rfl ?_
    (try simp (disch := omega) only [L_le, le_L, L_lt, lt_L, eq_L, L_eq, I_le, I_lt, I_eq, I_ni, add_L, L_add, I_add, mul_L, L_mul, I_mul, sub_L, L_sub, I_sub, div_L, rem_L])
    refine hK3 _ _ hx' ⟨rfl, F, f', g1, g2, g3, fun x9 hl hr => g4 x9 (by have : x9 ≠ x := fun e9 => hb (e9 ▸ hr.2); omega) hr⟩
  rw [if_pos hb]
  have b1 := (g2 o ho').2.1
  have b2 := (f2 o ho').2.1
  have b3 := (g2 x hx').2.1
  have b4 := (f2 x hx').2.1
  refine brF (by decide) ⟨tix_I rfl (by show _ < 32; omega) (by decide), tix_I rfl (by show _ < 32; omega) (by decide), tix_I rfl (by show _ < 32; omega) (by decide), ?_⟩
  rw [I_ni (by omega), g1 o ho', g1 x hx']
  (try simp (disch := omega) only [L_le, le_L, L_lt, lt_L, eq_L, L_eq, I_le, I_lt, I_eq, I_ni, add_L, L_add, I_add, mul_L, L_mul, I_mul, sub_L, L_sub, I_sub, div_L, rem_L])
  intro U1 hU1
  have hm : U1 = U.sa 8 o (I (min (f' o) (f' x + 1))) := by
    rw [hU1]
    congr 1
    by_cases hl : f' x + 1 < f' o
    · rw [if_pos hl, Nat.min_eq_right (by omega)]
    · rw [if_neg hl, Nat.min_eq_left (by omega)]
  have a8 : U1.a 8 = updN (U.a 8) o (I (min (f' o) (f' x + 1))) := by rw [hm, sa_at]
  refine hK3 _ _ hx' ⟨rfl, by rw [hm]; exact F.sa (by decide) _ _, updN f' o (min (f' o) (f' x + 1)), fun o9 ho9 => ?_, fun o9 ho9 => ?_, fun o9 hl x9 hr => ?_, fun x9 hl hr => ?_⟩
  · rw [a8]
    by_cases eo : o9 = o
    · rw [eo, updN_same, updN_same]
    · rw [updN_ne _ _ eo, updN_ne _ _ eo]; exact g1 o9 ho9
  · by_cases eo : o9 = o
    · subst eo
      rw [updN_same]
      refine ⟨by have := (g2 o9 ho9).1; omega, by omega, fun hl => ?_⟩
      by_cases hl2 : f' x + 1 < f' o9
      · rw [Nat.min_eq_right (by omega)] at hl ⊢
        exact ⟨x, ⟨ho9, hb⟩, (g2 x hx').2.2 (by omega)⟩
      · rw [Nat.min_eq_left (by omega)] at hl ⊢
        exact (g2 o9 ho9).2.2 hl
    · rw [updN_ne _ _ eo]; exact g2 o9 ho9
  · rw [updN_ne _ _ (by omega)]; exact g3 o9 hl x9 hr
  · rw [updN_same]
    by_cases ex : x9 = x
    · subst ex; omega
    · have := g4 x9 (by omega) hr; omega

/-- the first circle. -/
theorem pt_findsCircle (W : G.WF) {a1 : Nat → Int32} (A : TG a1 G) (ha : T.a 1 = a1) {ind : Nat → Int32} (h5 : T.a 5 = ind) {Q : Int32 → TS → Prop}
    (h : ∀ U, Tch [6, 8, 9] [227] T U → (∀ p g, G.cirP ind = some p → fself (clo (G.rI ind p)) = some g → U.s 227 = I (rlen (G.rI ind p) g) ∧ rlen (G.rI ind p) g ≤ 32 ∧ ∀ i, i < rlen (G.rI ind p) g → U.a 9 i = I (ring (G.rI ind p) g (rlen (G.rI ind p) g) i)) → Q (oI (G.cirP ind)) U) : wp_X1_findsCircle T Q := by
  have hP := W.nP
  unfold wp_X1_findsCircle
  refine tlp_cnt G.nP (fun k s U => s = I k ∧ Tch [6] [] T U ∧ fstN (fun p => (fself (clo (G.rI ind p))).isSome) k = none) ⟨rfl, Tch.refl T, rfl⟩ ?_
  intro k s U K hk hh hK
  obtain ⟨hs, F, hf⟩ := hh
  rw [hs]
  clear hs s
  have haU : U.a 1 = a1 := (F.a 1 (by decide)).trans ha
  have h5U : U.a 5 = ind := (F.a 5 (by decide)).trans h5
  refine ⟨tix_I (k := 1) rfl (by decide) (by decide), ?_⟩
  rw [show ni 1 = 1 from rfl, haU, A.nP]
  by_cases e : k = G.nP
  · refine brT (by (first | omega | ((try simp (disch := omega) only [L_le, le_L, L_lt, lt_L, eq_L, L_eq, I_le, I_lt, I_eq, I_ni, add_L, L_add, I_add, mul_L, L_mul, I_mul, sub_L, L_sub, I_sub, div_L, rem_L]); done) | ((try simp (disch := omega) only [L_le, le_L, L_lt, lt_L, eq_L, L_eq, I_le, I_lt, I_eq, I_ni, add_L, L_add, I_add, mul_L, L_mul, I_mul, sub_L, L_sub, I_sub, div_L, rem_L]); omega))) ?_
    have e1 : G.cirP ind = none := by unfold Gv.cirP; rw [← e]; exact hf
    have := h U (F.mono (by decide) (by decide)) (fun p g hp => by rw [e1] at hp; exact absurd hp (by simp))
    rw [e1] at this
    exact this
  have hk' : k < G.nP := by omega
  refine brF (by (first | omega | ((try simp (disch := omega) only [L_le, le_L, L_lt, lt_L, eq_L, L_eq, I_le, I_lt, I_eq, I_ni, add_L, L_add, I_add, mul_L, L_mul, I_mul, sub_L, L_sub, I_sub, div_L, rem_L]); done) | ((try simp (disch := omega) only [L_le, le_L, L_lt, lt_L, eq_L, L_eq, I_le, I_lt, I_eq, I_ni, add_L, L_add, I_add, mul_L, L_mul, I_mul, sub_L, L_sub, I_sub, div_L, rem_L]); omega))) ?_
  refine pt_laysClosed W A haU hk' ?_
  intro r hr
  rw [h5U] at hr
  refine pt_firstSelf ?_
  have hrr : fself ((U.wa 6 r).a 6) = fself (clo (G.rI ind k)) := by
    rw [wa_a, if_pos rfl]
    exact fself_congr hr
  rw [hrr]
  have F1 : Tch [6] [] T (U.wa 6 r) := F.wa (by decide) _
  cases hfs : fself (clo (G.rI ind k)) with
  | none =>
    refine brT rfl ?_
    (try simp (disch := omega) only [L_le, le_L, L_lt, lt_L, eq_L, L_eq, I_le, I_lt, I_eq, I_ni, add_L, L_add, I_add, mul_L, L_mul, I_mul, sub_L, L_sub, I_sub, div_L, rem_L])
    refine hK _ _ hk' ⟨rfl, F1, fstN_none.2 (fun j hj => ?_)⟩
    by_cases ej : j = k
    · subst ej
      show (fself (clo (G.rI ind j))).isSome = false
      rw [hfs]; rfl
    · exact fstN_none.1 hf j (by omega)
  | some g =>
    have hg : g < 32 ∧ bt (clo (G.rI ind k) g) g = true := by
      have := fstN_some.1 hfs
      exact ⟨this.1, this.2.1⟩
    refine brF (I_neg1_ne (by omega)) ?_
    refine pt_laysRules W A (F1.a 1 (by decide) |>.trans ha) hk' ?_
    refine pt_addsInduced W A (by show (((U.wa 6 r).wa 6 _).a 1) = a1; simp only [wa_a, show (1 : Nat) ≠ 6 by decide, if_false]; exact haU) hk' ?_
    simp only [wa_wa, wa_a, if_true, show (5 : Nat) ≠ 6 by decide, if_false, h5U]
    have hro : ∀ o, o < 32 → G.addI ind k (mixN 32 (G.ask k) r) o = G.rI ind k o := fun o ho => addI_mix (fun y hy => by simp [mixN, hy]) ho
    have hRw := Rw.congr hro
    have e1 : G.cirP ind = some k := by
      unfold Gv.cirP
      refine fstN_some.2 ⟨hk', by show (fself (clo (G.rI ind k))).isSome = true; rw [hfs]; rfl, fun j hj => fstN_none.1 hf j hj⟩
    have hi : ∀ o d, isD (G.addI ind k (mixN 32 (G.ask k) r)) g o d = isD (G.rI ind k) g o d := fun o d => by unfold isD; rw [hRw]
    have hrl : rlen (G.addI ind k (mixN 32 (G.ask k) r)) g = rlen (G.rI ind k) g := congrArg (fun P : Nat → Prop => (fstN (fun d => @decide (P d) (Classical.propDecidable _)) 33).getD 0) (funext fun d => hi g d)
    have hrn : ∀ x j, rnx (G.addI ind k (mixN 32 (G.ask k) r)) g x j = rnx (G.rI ind k) g x j := fun x j => congrArg (fun P : Nat → Prop => (fstN (fun c => @decide (P c) (Classical.propDecidable _)) 32).getD 0) (funext fun c => by rw [hRw, hi])
    have hrg : ∀ n i, ring (G.addI ind k (mixN 32 (G.ask k) r)) g n i = ring (G.rI ind k) g n i := fun n i => by
      induction i with
      | zero => rfl
      | succ i ih =>
        show rnx _ g (ring _ g n i) (n - i - 1) = rnx _ g (ring _ g n i) (n - i - 1)
        rw [ih, hrn]
    have htr : Trc (Rw (G.rI ind k)) g g := (clo_bt _ hg.1).1 hg.2
    refine pt_laysRing (T := U.wa 6 (G.addI ind k (mixN 32 (G.ask k) r))) hg.1 (by rw [wa_a, if_pos rfl, hRw]; exact htr) ?_
    intro U2 F2 s2 r2
    rw [wa_a, if_pos rfl, hrl] at s2 r2
    have := h U2 (((F.wa (j := 6) (by decide) (G.addI ind k (mixN 32 (G.ask k) r))).mono (by decide) (by decide)).trans (F2.mono (by decide) (by decide))) (fun p g' hp hg' => by
      rw [e1] at hp
      have := Option.some.inj hp
      subst this
      rw [hfs] at hg'
      have := Option.some.inj hg'
      subst this
      exact ⟨s2, (rlen_ok hg.1 htr).2, fun i hi => by rw [r2 i hi, hrg]⟩)
    rw [e1] at this
    exact this
end
