/-! plain: tn3 -/
set_option maxRecDepth 100000
section
variable {G : Gv} {V : Tv} {T : TS} {gv : Nat → Int32}

theorem pt_joined {c : Nat} (hc : c < 1000) {x y : Int32} {Q : Int32 → TS → Prop} (h : Q (jn c x y) T) : wp_X1_joined (I c) x y T Q := by
  unfold wp_X1_joined
  by_cases e4 : c = 4
  · subst e4
    exact brT rfl h
  refine brF (fun hh => e4 ((eq_L 4 (by decide) (by omega)).1 hh)) ?_
  by_cases e38 : c = 38
  · subst e38
    exact brT rfl h
  refine brF (fun hh => e38 ((eq_L 38 (by decide) (by omega)).1 hh)) ?_
  by_cases e42 : c = 42
  · subst e42
    exact brT rfl h
  refine brF (fun hh => e42 ((eq_L 42 (by decide) (by omega)).1 hh)) ?_
  by_cases e43 : c = 43
  · subst e43
    exact brT rfl h
  refine brF (fun hh => e43 ((eq_L 43 (by decide) (by omega)).1 hh)) ?_
  by_cases e45 : c = 45
  · subst e45
    exact brT rfl h
  refine brF (fun hh => e45 ((eq_L 45 (by decide) (by omega)).1 hh)) ?_
  by_cases e60 : c = 60
  · subst e60
    refine brT rfl ?_
    intro m hm
    have e : m = jn 60 x y := by
      rw [hm]
      show _ = (if x < y then 1 else 0)
      by_cases hl : x < y
      · rw [if_pos hl, if_neg (by lia)]
      · rw [if_neg hl, if_pos (by lia)]
    rw [e]
    exact h
  refine brF (fun hh => e60 ((eq_L 60 (by decide) (by omega)).1 hh)) ?_
  by_cases e124 : c = 124
  · subst e124
    exact brT rfl h
  refine brF (fun hh => e124 ((eq_L 124 (by decide) (by omega)).1 hh)) ?_
  unfold jn at h
  rw [if_neg e43, if_neg e45, if_neg e42, if_neg e124, if_neg e38, if_neg e60, if_neg e4] at h
  have e : (if y < x then y else x) = (if x < y then x else y) := by
    by_cases hl : x < y
    · rw [if_pos hl, if_neg (by lia)]
    · rw [if_neg hl]
      by_cases hl2 : y < x
      · rw [if_pos hl2]
      · rw [if_neg hl2]
        exact Int32.le_antisymm (by lia) (by lia)
  rw [e]
  exact h

theorem tk_dr {α : Type} (d : α) : ∀ (l : List α) (k : Nat), k < l.length → l.drop k = l.getD k d :: l.drop (k + 1) ∧ l.take (k + 1) = l.take k ++ [l.getD k d]
  | [], k, h => absurd h (Nat.not_lt_zero _)
  | a :: l, 0, _ => ⟨rfl, rfl⟩
  | a :: l, k + 1, h => by
    have := tk_dr d l k (Nat.lt_of_succ_lt_succ h)
    exact ⟨this.1, congrArg (List.cons a) this.2⟩
theorem getD_mem {α : Type} (d : α) : ∀ (l : List α) (k : Nat), k < l.length → l.getD k d ∈ l
  | [], k, h => absurd h (Nat.not_lt_zero _)
  | a :: l, 0, _ => List.mem_cons_self
  | a :: l, k + 1, h => List.mem_cons_of_mem a (getD_mem d l k (Nat.lt_of_succ_lt_succ h))

/-- a pile. -/
def PL (a : Nat → Int32) (st : List Int32) : Prop := ∀ m, m < st.length → a (st.length - 1 - m) = st.getD m 0
theorem PL.push {a : Nat → Int32} {st : List Int32} (h : PL a st) (x : Int32) : PL (updN a st.length x) (x :: st)
  | 0, _ => updN_same _ _ _
  | m + 1, hm => by
    have hm' : m < st.length := Nat.lt_of_succ_lt_succ hm
    have e : (x :: st).length - 1 - (m + 1) = st.length - 1 - m := by
      rw [List.length_cons]; omega
    rw [e, updN_ne _ _ (by omega)]
    exact h m hm'
theorem PL.tl {a : Nat → Int32} {x : Int32} {st : List Int32} (h : PL a (x :: st)) : PL a st := by
  intro m hm
  have := h (m + 1) (Nat.succ_lt_succ hm)
  rw [List.length_cons, show st.length + 1 - 1 - (m + 1) = st.length - 1 - m by omega] at this
  exact this
theorem PL.hd {a : Nat → Int32} {x : Int32} {st : List Int32} (h : PL a (x :: st)) : a st.length = x := by
  have := h 0 (Nat.succ_pos _)
  rw [List.length_cons, show st.length + 1 - 1 - 0 = st.length by omega] at this
  exact this
theorem st3 {st : List Int32} (h : 3 ≤ st.length) : ∃ z y x r, st = z :: y :: x :: r := by
  match st, h with
  | z :: y :: x :: r, _ => exact ⟨z, y, x, r, rfl⟩
theorem st2 {st : List Int32} (h : 2 ≤ st.length) : ∃ y x r, st = y :: x :: r := by
  match st, h with
  | y :: x :: r, _ => exact ⟨y, x, r, rfl⟩
theorem add_neg2 (x : Int32) : x + (-2) = x - 2 := (Int32.sub_eq_add_neg x 2).symm

theorem pt_worked (W : G.WF) (X : V.WF G) (P : V.PO G) (R : G.RL) (J : TwI T G V gv) (B : TwB T G V) {i : Nat} (hi : V.is G i) {Q : Int32 → TS → Prop} (h : ∀ U, Tch [42] [] T U → Q (V.mk G gv i (T.a 28)) U) : wp_X1_worked (I i) T Q := by
  have h40 := X.n40
  have hlt := X.isLt hi
  unfold wp_X1_worked
  refine ⟨tix_I rfl (by show _ < 320; omega) (by decide), ?_⟩
  rw [I_ni (by omega), B.ba i hi]
  unfold Tv.mk at h
  cases hr : V.rA G i with
  | none =>
    rw [hr] at h
    refine brT rfl ?_
    (try simp (disch := omega) only [L_le, le_L, L_lt, lt_L, eq_L, L_eq, I_le, I_lt, I_eq, I_ni, add_L, L_add, I_add, mul_L, L_mul, I_mul, sub_L, L_sub, I_sub, div_L, rem_L])
    have h8 : i % 8 < 4 := by
      have hs := W.ins _ (X.smS W hi.1)
      unfold Tv.rA at hr
      split at hr
      · exact absurd hr (by simp)
      · omega
    refine ⟨tix_I rfl (by show _ < 4; omega) (by decide), ?_⟩
    rw [J.gi _ h8]
    exact h T (Tch.refl T)
  | some q =>
    rw [hr] at h
    dsimp only at h
    have hq := X.rAlt hi.1 hr
    have hP := W.nP
    have hp := X.pd q hq
    have ho := (X.oOlt W hi hr).1.1
    rw [show oI (some q) = I q from rfl]
    refine brF (I_neg1_ne (by omega)) ⟨tix_I rfl (by show _ < 320; omega) (by decide), tix_I rfl (by show _ < 40; omega) (by decide), tix_I rfl (by show _ < 320; omega) (by decide), ?_⟩
    rw [I_ni (show q < 2147483648 by omega), J.pd q hq, B.oc i q hi hr]
    (try simp (disch := omega) only [L_le, le_L, L_lt, lt_L, eq_L, L_eq, I_le, I_lt, I_eq, I_ni, add_L, L_add, I_add, mul_L, L_mul, I_mul, sub_L, L_sub, I_sub, div_L, rem_L])
    refine ⟨tix_I rfl (by show _ < 3816; omega) (by decide), ?_⟩
    have a80 : 80 + (32 * V.pd q + V.oO G i) = 80 + 32 * V.pd q + V.oO G i := by omega
    have a464 : 464 + (32 * V.pd q + V.oO G i) = 464 + 32 * V.pd q + V.oO G i := by omega
    rw [a80, a464]
    cases he : G.rl (V.pd q) (V.oO G i) with
    | none =>
      obtain ⟨c1, c2, _⟩ := J.C.cn _ _ hp ho he
      rw [he] at h
      rw [c1]
      refine tlp_cnt 0 (fun k s U => s = (0, 0) ∧ U = T) ⟨rfl, rfl⟩ ?_
      intro k s U K hk hh hK
      obtain ⟨hs, hU⟩ := hh
      rw [hs, hU]
      refine ⟨tix_I rfl (by show _ < 3816; omega) (by decide), ?_⟩
      rw [c2]
      exact brT (by decide) (brT rfl (h T (Tch.refl T)))
    | some e =>
      obtain ⟨f, c1, c2, _, c4, c5⟩ := J.C.cs _ _ e hp ho he
      rw [he] at h
      have hocc : ∀ x, (2, x) ∈ e → G.oc (V.pd q) x := fun x hx => W.rb _ _ e x hp he (Ex.asks_bt hx (R.occ _ _ e x hp he hx))
      rw [c1]
      refine tlp_cnt e.length (fun k s U => Tch [42] [] T U ∧ ∃ st : List Int32, s = (I st.length, I (f + k)) ∧ st = Ex.run (V.nu q) (fun o => T.a 28 (8 * V.atP q (o / 8) + o % 8)) (e.take k) [] ∧ PL (U.a 42) st ∧ Ex.hgt (e.drop k) st.length = some 1 ∧ st.length + Ex.lv (e.drop k) ≤ 24) ⟨Tch.refl T, [], rfl, rfl, fun m hm => absurd hm (Nat.not_lt_zero _), R.hgt _ _ e hp he, by have := R.lv _ _ e hp he; show 0 + Ex.lv e ≤ 24; omega⟩ ?_
      intro k s U K hk hh hK
      obtain ⟨F, st, hs, hst, PLs, hg, hl⟩ := hh
      rw [hs]
      clear hs s
      have J1 : U.a 1 = T.a 1 := F.a 1 (by decide)
      refine ⟨tix_I rfl (by show _ < 3816; omega) (by decide), ?_⟩
      rw [J1, c2]
      by_cases e1 : k = e.length
      · subst e1
        refine brT (by (first | omega | ((try simp (disch := omega) only [L_le, le_L, L_lt, lt_L, eq_L, L_eq, I_le, I_lt, I_eq, I_ni, add_L, L_add, I_add, mul_L, L_mul, I_mul, sub_L, L_sub, I_sub, div_L, rem_L]); done) | ((try simp (disch := omega) only [L_le, le_L, L_lt, lt_L, eq_L, L_eq, I_le, I_lt, I_eq, I_ni, add_L, L_add, I_add, mul_L, L_mul, I_mul, sub_L, L_sub, I_sub, div_L, rem_L]); omega))) ?_
        rw [List.drop_length] at hg
        rw [List.take_length] at hst
        have hn : st.length = 1 := Option.some.inj hg
        refine brF (fun hh => ?_) ⟨tix_I (k := 0) rfl (by decide) (by decide), ?_⟩
        · have hh' : I st.length = 0 := hh
          rw [hn] at hh'
          exact absurd hh' (by decide)
        · have e5 : U.a 42 (ni 0) = Ex.val (V.nu q) (fun o => T.a 28 (8 * V.atP q (o / 8) + o % 8)) e := by
            show U.a 42 0 = (Ex.run _ _ e []).headD 0
            rw [← hst]
            have := PLs 0 (by omega)
            rw [hn] at this
            rw [show U.a 42 0 = st.getD 0 0 from this]
            cases st <;> rfl
          rw [e5]
          exact h U F
      have hk' : k < e.length := by omega
      obtain ⟨d1, d2⟩ := tk_dr ((0 : Nat), (0 : Nat)) e k hk'
      have hmem := getD_mem ((0 : Nat), (0 : Nat)) e k hk'
      obtain ⟨c6, c7, c8, c9⟩ := c5 k hk'
      obtain ⟨c0, cv, hcc⟩ : ∃ c0 cv, e.getD k (0, 0) = (c0, cv) := ⟨_, _, rfl⟩
      rw [hcc] at d1 d2 c6 c7 c8 c9 hmem
      rw [d1] at hg hl
      have hg' : (if c0 ≤ 2 then Ex.hgt (e.drop (k + 1)) (st.length + 1) else if c0 = 3 then (if 3 ≤ st.length then Ex.hgt (e.drop (k + 1)) (st.length - 2) else none) else if 2 ≤ st.length then Ex.hgt (e.drop (k + 1)) (st.length - 1) else none) = some 1 := hg
      have hl' : st.length + ((if c0 ≤ 2 then 1 else 0) + Ex.lv (e.drop (k + 1))) ≤ 24 := hl
      have hst' : Ex.run (V.nu q) (fun o => T.a 28 (8 * V.atP q (o / 8) + o % 8)) (e.take (k + 1)) [] = stp (V.nu q) (fun o => T.a 28 (8 * V.atP q (o / 8) + o % 8)) st (c0, cv) := by
        rw [d2, Ex.run_app, ← hst, Ex.run_one]
      have c6' : T.a 1 (1616 + (f + k)) = I c0 := c6
      have c7' : T.a 1 (2716 + (f + k)) = I cv := c7
      have c8' : c0 < 1000 := c8
      have c9' : cv < 100000 := c9
      clear hg hl hst c6 c7 c8 c9 d1 d2 hcc c5 he c1
      -- what stands behind a step
      have fin : ∀ (U2 : TS) (st2 : List Int32), Tch [42] [] T U2 → st2 = stp (V.nu q) (fun o => T.a 28 (8 * V.atP q (o / 8) + o % 8)) st (c0, cv) → PL (U2.a 42) st2 → Ex.hgt (e.drop (k + 1)) st2.length = some 1 → st2.length + Ex.lv (e.drop (k + 1)) ≤ 24 → K (I st2.length, I (f + k + 1)) U2 := by
        intro U2 st2 F2 e2 P2 g2 l2
        exact hK _ _ hk' ⟨F2, st2, rfl, e2.trans hst'.symm, P2, g2, l2⟩
      refine brF (by (first | omega | ((try simp (disch := omega) only [L_le, le_L, L_lt, lt_L, eq_L, L_eq, I_le, I_lt, I_eq, I_ni, add_L, L_add, I_add, mul_L, L_mul, I_mul, sub_L, L_sub, I_sub, div_L, rem_L]); done) | ((try simp (disch := omega) only [L_le, le_L, L_lt, lt_L, eq_L, L_eq, I_le, I_lt, I_eq, I_ni, add_L, L_add, I_add, mul_L, L_mul, I_mul, sub_L, L_sub, I_sub, div_L, rem_L]); omega))) ?_
      (try simp (disch := omega) only [L_le, le_L, L_lt, lt_L, eq_L, L_eq, I_le, I_lt, I_eq, I_ni, add_L, L_add, I_add, mul_L, L_mul, I_mul, sub_L, L_sub, I_sub, div_L, rem_L])
      refine ⟨tix_I rfl (by show _ < 3816; omega) (by decide), ?_⟩
      rw [c6']
      by_cases h2 : c0 ≤ 2
      · rw [if_pos h2] at hg' hl'
        have hsl : st.length < 64 := by omega
        refine brF (by (first | omega | ((try simp (disch := omega) only [L_le, le_L, L_lt, lt_L, eq_L, L_eq, I_le, I_lt, I_eq, I_ni, add_L, L_add, I_add, mul_L, L_mul, I_mul, sub_L, L_sub, I_sub, div_L, rem_L]); done) | ((try simp (disch := omega) only [L_le, le_L, L_lt, lt_L, eq_L, L_eq, I_le, I_lt, I_eq, I_ni, add_L, L_add, I_add, mul_L, L_mul, I_mul, sub_L, L_sub, I_sub, div_L, rem_L]); omega))) ?_
        by_cases h00 : c0 = 0
        · subst h00
          refine brT rfl ⟨tix_I rfl (by show _ < 3816; omega) (by decide), tix_I rfl hsl (by decide), ?_⟩
          rw [c7']
          intro U2 hU2
          exact fin U2 (I cv :: st) (by rw [hU2]; exact F.sa (by decide) _ _) rfl (by rw [hU2, sa_at]; exact PLs.push _) hg' (by rw [List.length_cons]; omega)
        refine brF (fun hh => h00 ((eq_L 0 (by decide) (by omega)).1 hh)) ?_
        by_cases h01 : c0 = 1
        · subst h01
          refine brT rfl ⟨tix_I rfl (by show _ < 40; omega) (by decide), tix_I rfl hsl (by decide), ?_⟩
          intro U2 hU2
          have e20 : U.a 20 q = V.nu q := by rw [F.a 20 (by decide)]; exact J.nu q hq
          rw [e20] at hU2
          exact fin U2 (V.nu q :: st) (by rw [hU2]; exact F.sa (by decide) _ _) rfl (by rw [hU2, sa_at]; exact PLs.push _) hg' (by rw [List.length_cons]; omega)
        refine brF (fun hh => h01 ((eq_L 1 (by decide) (by omega)).1 hh)) ⟨tix_I rfl (by show _ < 3816; omega) (by decide), ?_⟩
        have h02 : c0 = 2 := by omega
        subst h02
        rw [c7']
        have JU := J.keep F (by decide) (by decide) (by decide) (by decide) (by decide) (by decide)
        have hoc := hocc cv hmem
        refine pt_instanceOf W X P JU hq hoc ?_
        have hat : V.atP q (cv / 8) < V.n := by
          unfold Tv.atP
          split
          · exact hq
          · exact (X.kid q (cv / 8) hq (by omega) hoc.2.1).1
        (try simp (disch := omega) only [L_le, le_L, L_lt, lt_L, eq_L, L_eq, I_le, I_lt, I_eq, I_ni, add_L, L_add, I_add, mul_L, L_mul, I_mul, sub_L, L_sub, I_sub, div_L, rem_L])
        refine ⟨tix_I rfl (by show _ < 320; omega) (by decide), tix_I rfl hsl (by decide), ?_⟩
        intro U2 hU2
        rw [F.a 28 (by decide)] at hU2
        exact fin U2 (T.a 28 (8 * V.atP q (cv / 8) + cv % 8) :: st) (by rw [hU2]; exact F.sa (by decide) _ _) rfl (by rw [hU2, sa_at]; exact PLs.push _) hg' (by rw [List.length_cons]; omega)
      rw [if_neg h2] at hg' hl'
      refine brT (by (first | omega | ((try simp (disch := omega) only [L_le, le_L, L_lt, lt_L, eq_L, L_eq, I_le, I_lt, I_eq, I_ni, add_L, L_add, I_add, mul_L, L_mul, I_mul, sub_L, L_sub, I_sub, div_L, rem_L]); done) | ((try simp (disch := omega) only [L_le, le_L, L_lt, lt_L, eq_L, L_eq, I_le, I_lt, I_eq, I_ni, add_L, L_add, I_add, mul_L, L_mul, I_mul, sub_L, L_sub, I_sub, div_L, rem_L]); omega))) ?_
      by_cases h3 : c0 = 3
      · subst h3
        rw [if_pos rfl] at hg'
        by_cases hs3 : 3 ≤ st.length
        rotate_left
        · rw [if_neg hs3] at hg'; exact absurd hg' (by simp)
        rw [if_pos hs3] at hg'
        obtain ⟨z, y, x, r, rfl⟩ := st3 hs3
        have hz := PLs.hd
        have hy := PLs.tl.hd
        have hx := PLs.tl.tl.hd
        have PR := PLs.tl.tl.tl
        have er : (z :: y :: x :: r).length = r.length + 3 := rfl
        have e7 : I (z :: y :: x :: r).length + (-2) = I (r.length + 1) := by
          rw [er, add_neg2]
          (try simp (disch := omega) only [L_le, le_L, L_lt, lt_L, eq_L, L_eq, I_le, I_lt, I_eq, I_ni, add_L, L_add, I_add, mul_L, L_mul, I_mul, sub_L, L_sub, I_sub, div_L, rem_L])
          rfl
        have e8 : I (r.length + 1) - 1 = I r.length := by
          (try simp (disch := omega) only [L_le, le_L, L_lt, lt_L, eq_L, L_eq, I_le, I_lt, I_eq, I_ni, add_L, L_add, I_add, mul_L, L_mul, I_mul, sub_L, L_sub, I_sub, div_L, rem_L])
          rfl
        rw [er] at hl' hg'
        refine brT rfl ?_
        rw [e7, e8]
        have eL : (y :: x :: r).length = r.length + 2 := rfl
        have eL1 : (x :: r).length = r.length + 1 := rfl
        rw [eL] at hz
        rw [eL1] at hy
        (try simp (disch := omega) only [L_le, le_L, L_lt, lt_L, eq_L, L_eq, I_le, I_lt, I_eq, I_ni, add_L, L_add, I_add, mul_L, L_mul, I_mul, sub_L, L_sub, I_sub, div_L, rem_L])
        refine ⟨tix_I rfl (by show _ < 64; omega) (by decide), ?_⟩
        rw [hx]
        by_cases hx0 : x = 0
        · refine brT hx0 ⟨tix_I rfl (by show _ < 64; omega) (by decide), tix_I rfl (by show _ < 64; omega) (by decide), ?_⟩
          intro U2 hU2
          rw [show r.length + 1 + 1 = r.length + 2 from rfl, hz] at hU2
          refine fin U2 (z :: r) (by rw [hU2]; exact F.sa (by decide) _ _) ?_ (by rw [hU2, sa_at]; exact PR.push _) hg' (by rw [List.length_cons]; omega)
          show z :: r = (if x = 0 then z else y) :: r
          rw [if_pos hx0]
        · refine brF hx0 ⟨tix_I rfl (by show _ < 64; omega) (by decide), tix_I rfl (by show _ < 64; omega) (by decide), ?_⟩
          intro U2 hU2
          rw [hy] at hU2
          refine fin U2 (y :: r) (by rw [hU2]; exact F.sa (by decide) _ _) ?_ (by rw [hU2, sa_at]; exact PR.push _) hg' (by rw [List.length_cons]; omega)
          show y :: r = (if x = 0 then z else y) :: r
          rw [if_neg hx0]
      rw [if_neg h3] at hg'
      refine brF (fun hh => h3 ((eq_L 3 (by decide) (by omega)).1 hh)) ?_
      by_cases hs2 : 2 ≤ st.length
      rotate_left
      · rw [if_neg hs2] at hg'; exact absurd hg' (by simp)
      rw [if_pos hs2] at hg'
      obtain ⟨y, x, r, rfl⟩ := st2 hs2
      have hy := PLs.hd
      have hx := PLs.tl.hd
      have PR := PLs.tl.tl
      have er : (y :: x :: r).length = r.length + 2 := rfl
      have e7 : I (y :: x :: r).length + (-1) = I (r.length + 1) := by
        rw [er, add_neg1]
        (try simp (disch := omega) only [L_le, le_L, L_lt, lt_L, eq_L, L_eq, I_le, I_lt, I_eq, I_ni, add_L, L_add, I_add, mul_L, L_mul, I_mul, sub_L, L_sub, I_sub, div_L, rem_L])
        rfl
      have e8 : I (r.length + 1) - 1 = I r.length := by
        (try simp (disch := omega) only [L_le, le_L, L_lt, lt_L, eq_L, L_eq, I_le, I_lt, I_eq, I_ni, add_L, L_add, I_add, mul_L, L_mul, I_mul, sub_L, L_sub, I_sub, div_L, rem_L])
        rfl
      rw [er] at hl' hg'
      rw [e7, e8]
      have eL1 : (x :: r).length = r.length + 1 := rfl
      rw [eL1] at hy
      (try simp (disch := omega) only [L_le, le_L, L_lt, lt_L, eq_L, L_eq, I_le, I_lt, I_eq, I_ni, add_L, L_add, I_add, mul_L, L_mul, I_mul, sub_L, L_sub, I_sub, div_L, rem_L])
      refine ⟨tix_I rfl (by show _ < 64; omega) (by decide), tix_I rfl (by show _ < 64; omega) (by decide), ?_⟩
      rw [hx, hy]
      refine pt_joined c8' ?_
      refine ⟨tix_I rfl (by show _ < 64; omega) (by decide), ?_⟩
      intro U2 hU2
      refine fin U2 (jn c0 x y :: r) (by rw [hU2]; exact F.sa (by decide) _ _) ?_ (by rw [hU2, sa_at]; exact PR.push _) hg' (by rw [List.length_cons]; omega)
      unfold stp
      rw [if_neg (show ¬ c0 = 0 by omega), if_neg (show ¬ c0 = 1 by omega), if_neg (show ¬ c0 = 2 by omega), if_neg h3]
end
