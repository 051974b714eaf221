/-! plain: pg1 -/
set_option maxRecDepth 100000
section
variable {tp : Nat → Nat} {n : Nat} {A : PG} {p : Nat}

def isT (tp : Nat → Nat) (n : Nat) (t : Tk) : Prop := ∃ fr, t = tokA tp n fr
theorem isT.nx {t : Tk} (_ : isT tp n t) : isT tp n (nxt tp n t) := ⟨_, rfl⟩
theorem isT.up {t : Tk} (h : isT tp n t) (hk : t.kd ≠ 0) : t.fr + 1 ≤ (nxt tp n t).fr := by
  obtain ⟨fr, rfl⟩ := h
  have h0 : fr < n := Nat.lt_of_not_le (fun hh => hk ((tokA_kd0 fr).2 hh))
  have h1 := (tokA_to (tp := tp) (n := n) fr).2 h0
  have h2 : (nxt tp n (tokA tp n fr)).fr = eS tp n (tokA tp n fr).to := tokA_fr _
  have h3 := (eS_ok (tp := tp) (n := n) (tokA tp n fr).to).1
  rw [tokA_fr, h2]
  omega
theorem isT.le {t : Tk} (h : isT tp n t) : t.fr ≤ (nxt tp n t).fr := by
  obtain ⟨fr, rfl⟩ := h
  have h1 := (tokA_to (tp := tp) (n := n) fr).1
  have h2 : (nxt tp n (tokA tp n fr)).fr = eS tp n (tokA tp n fr).to := tokA_fr _
  have h3 := (eS_ok (tp := tp) (n := n) (tokA tp n fr).to).1
  rw [tokA_fr, h2]
  omega
theorem sg_ne {t : Tk} {c : Nat} (h : isSg t c = true) : t.kd ≠ 0 := by have := (isSg_iff.1 h).1; omega
theorem nm_ne {t : Tk} (h : isNm tp t = true) : t.kd ≠ 0 := by have := (isNm_iff.1 h).1; omega
theorem w_ne {t : Tk} {k : Nat} (h : isW tp t k = true) : t.kd ≠ 0 := by have := (isW_iff.1 h).1; omega
theorem isT.nu {t : Tk} (h : isT tp n t) (hk : t.kd = 3) : t.nu < 10000 := by
  obtain ⟨fr, rfl⟩ := h
  unfold tokA at hk ⊢
  by_cases h0 : fr < n
  · rw [if_pos h0] at hk ⊢
    by_cases hl : ltr tp n fr = true
    · rw [if_pos hl]
      show 0 < 10000
      decide
    · rw [if_neg hl] at hk ⊢
      by_cases hd : dgt tp n fr = true
      · rw [if_pos hd]
        show nmv tp fr (min 4 (eD tp n fr - fr)) < 10000
        have h1 := nmv_le (tp := tp) fr (min 4 (eD tp n fr - fr)) (fun i hi => (dgt_iff.1 ((eD_ok (tp := tp) (n := n) fr).2.1 (fr + i) (by omega) (by omega))).2.2)
        have h2 : 10 ^ (min 4 (eD tp n fr - fr)) ≤ 10 ^ 4 := Nat.pow_le_pow_right (by decide) (by omega)
        have h3 : (10 : Nat) ^ 4 = 10000 := by decide
        omega
      · rw [if_neg hd]
        show 0 < 10000
        decide
  · rw [if_neg h0]
    show 0 < 10000
    decide
theorem isT.sg {t : Tk} (h : isT tp n t) (hb : ∀ k, k < n → tp k < 256) : t.sg < 256 := by
  obtain ⟨fr, rfl⟩ := h
  unfold tokA
  by_cases h0 : fr < n
  · rw [if_pos h0]
    by_cases hl : ltr tp n fr = true
    · rw [if_pos hl]; show 0 < 256; decide
    · rw [if_neg hl]
      by_cases hd : dgt tp n fr = true
      · rw [if_pos hd]; show 0 < 256; decide
      · rw [if_neg hd]; exact hb fr h0
  · rw [if_neg h0]; show 0 < 256; decide

theorem pOc_ok (W : A.g.WF) (hp : p < A.g.nP) {a o : Nat} (ha : a ≤ A.g.kn p) {t t' : Tk} (ht : isT tp n t) (h : pOc tp n A p a t = .ok (o, t')) : A.g.oc p o ∧ o / 8 = a ∧ t.fr + 1 ≤ t'.fr ∧ isT tp n t' ∧ isNm tp t' = true := by
  unfold pOc at h
  by_cases h1 : isSg t 46 = true
  · rw [if_pos h1] at h
    by_cases h2 : isNm tp (nxt tp n t) = true
    · rw [if_pos h2] at h
      cases hf : fdN (A.an (A.g.sy p a)) (A.g.cnt (A.g.sy p a)) (wrd tp (nxt tp n t)) with
      | none => rw [hf] at h; exact absurd h (by simp)
      | some x =>
        rw [hf] at h
        have e := Except.ok.inj h
        have e1 : 8 * a + x = o := (Prod.mk.inj e).1
        have e2 : nxt tp n t = t' := (Prod.mk.inj e).2
        subst e2
        have hx := (fstN_some.1 hf).1
        have hc := W.cnt8 (W.sy p a hp ha)
        have h3 := W.kn p hp
        have ea : o / 8 = a := by omega
        refine ⟨⟨by omega, by rw [ea]; exact ha, by rw [ea]; omega⟩, ea, ht.up (sg_ne h1), ht.nx, h2⟩
    · rw [if_neg h2] at h; exact absurd h (by simp)
  · rw [if_neg h1] at h; exact absurd h (by simp)

/-- what a reading of a part gives. -/
def okE (tp : Nat → Nat) (n : Nat) (A : PG) (p pa : Nat) (t : Tk) (r : ER) : Prop := ∀ e q t', r = .ok (e, q, t') → exK A p e pa q ∧ t.fr + e.length ≤ t'.fr ∧ isT tp n t' ∧ pa + 1 ≤ q

theorem pNum_ok (W : A.g.WF) (hp : p < A.g.nP) {pa : Nat} (hpa : pa ≤ 24) {t : Tk} (ht : isT tp n t) (hk : t.kd = 3) : okE tp n A p pa t (pNum tp n A p pa t) := by
  intro e q t' h
  have hu := ht.up (by omega)
  have hnu := ht.nu hk
  unfold pNum at h
  by_cases h1 : isSg (nxt tp n t) 46 = true
  · rw [if_pos h1] at h
    by_cases h2 : A.g.kn p < t.nu
    · rw [if_pos h2] at h; exact absurd h (by simp)
    · rw [if_neg h2] at h
      by_cases h3 : pa = 24
      · rw [if_pos h3] at h; exact absurd h (by simp)
      · rw [if_neg h3] at h
        cases ho : pOc tp n A p t.nu (nxt tp n t) with
        | error x => rw [ho] at h; exact absurd h (by simp)
        | ok r =>
          obtain ⟨o, t2⟩ := r
          rw [ho] at h
          have hh := Except.ok.inj h
          have e1 : [(2, o)] = e := (Prod.mk.inj hh).1
          have e2 : pa + 1 = q := (Prod.mk.inj (Prod.mk.inj hh).2).1
          have e3 : nxt tp n t2 = t' := (Prod.mk.inj (Prod.mk.inj hh).2).2
          obtain ⟨o1, o2, o3, o4, o5⟩ := pOc_ok W hp (by omega) ht.nx ho
          subst e1
          subst e2
          subst e3
          have := o4.up (nm_ne o5)
          have := o1.1
          refine ⟨exK.leaf (by omega) (by omega) (by omega) (fun _ => o1), ?_, o4.nx, Nat.le_refl _⟩
          show t.fr + 1 ≤ _
          omega
  · rw [if_neg h1] at h
    by_cases h3 : pa = 24
    · rw [if_pos h3] at h; exact absurd h (by simp)
    · rw [if_neg h3] at h
      have hh := Except.ok.inj h
      have e1 : [(0, t.nu)] = e := (Prod.mk.inj hh).1
      have e2 : pa + 1 = q := (Prod.mk.inj (Prod.mk.inj hh).2).1
      have e3 : nxt tp n t = t' := (Prod.mk.inj (Prod.mk.inj hh).2).2
      subst e1
      subst e2
      subst e3
      refine ⟨exK.leaf (by omega) (by omega) (by omega) (fun h => absurd h (by decide)), ?_, ht.nx, Nat.le_refl _⟩
      show t.fr + 1 ≤ _
      omega
theorem pEat_ok {c : Nat} {t t' : Tk} (ht : isT tp n t) (h : pEat tp n c t = .ok t') : isSg t c = true ∧ t' = nxt tp n t ∧ t.fr + 1 ≤ t'.fr ∧ isT tp n t' := by
  unfold pEat at h
  by_cases h1 : isSg t c = true
  · rw [if_pos h1] at h
    have := Except.ok.inj h
    subst this
    exact ⟨h1, rfl, ht.up (sg_ne h1), ht.nx⟩
  · rw [if_neg h1] at h; exact absurd h (by simp)
theorem pOpn_ok {d : Nat} {t t' : Tk} (ht : isT tp n t) (h : pOpn tp n d t = .ok t') : isSg t 40 = true ∧ d ≠ 6 ∧ t' = nxt tp n t ∧ t.fr + 1 ≤ t'.fr ∧ isT tp n t' := by
  unfold pOpn at h
  by_cases h1 : isSg t 40 = true
  · rw [if_pos h1] at h
    by_cases h2 : d = 6
    · rw [if_pos h2] at h; exact absurd h (by simp)
    · rw [if_neg h2] at h
      have := Except.ok.inj h
      subst this
      exact ⟨h1, h2, rfl, ht.up (sg_ne h1), ht.nx⟩
  · rw [if_neg h1] at h; exact absurd h (by simp)
theorem pSE_ok {rs : Nat → Nat → Tk → ER} {d pa c : Nat} {t : Tk} (hr : okE tp n A p pa t (rs d pa t)) : okE tp n A p pa t (pSE tp n rs d pa c t) := by
  intro e q t' h
  unfold pSE at h
  cases h1 : rs d pa t with
  | error x => rw [h1] at h; exact absurd h (by simp)
  | ok r =>
    obtain ⟨e1, q1, t1⟩ := r
    rw [h1] at h
    dsimp only at h
    obtain ⟨a1, a2, a3, a4⟩ := hr e1 q1 t1 h1
    cases h2 : pEat tp n c t1 with
    | error x => rw [h2] at h; exact absurd h (by simp)
    | ok t2 =>
      rw [h2] at h
      have hh := Except.ok.inj h
      have e1' : e1 = e := (Prod.mk.inj hh).1
      have e2 : q1 = q := (Prod.mk.inj (Prod.mk.inj hh).2).1
      have e3 : t2 = t' := (Prod.mk.inj (Prod.mk.inj hh).2).2
      obtain ⟨b1, b2, b3, b4⟩ := pEat_ok a3 h2
      subst e1'
      subst e2
      subst e3
      exact ⟨a1, by omega, b4, a4⟩
theorem pIf_ok {rs : Nat → Nat → Tk → ER} {d pa : Nat} {t : Tk} (ht : isT tp n t) (hpa : pa ≤ 24) (hr : ∀ pa t, isT tp n t → pa ≤ 24 → okE tp n A p pa t (rs (d + 1) pa t)) : okE tp n A p pa t (pIf tp n rs d pa t) := by
  intro e q t' h
  unfold pIf at h
  cases h1 : pOpn tp n d t with
  | error x => rw [h1] at h; exact absurd h (by simp)
  | ok t1 =>
    rw [h1] at h
    dsimp only at h
    obtain ⟨_, _, _, b1, b2⟩ := pOpn_ok ht h1
    cases h2 : pSE tp n rs (d + 1) pa 44 t1 with
    | error x => rw [h2] at h; exact absurd h (by simp)
    | ok r2 =>
      obtain ⟨e2, q2, t2⟩ := r2
      rw [h2] at h
      dsimp only at h
      obtain ⟨c1, c2, c3, c4⟩ := pSE_ok (c := 44) (hr pa t1 b2 hpa) e2 q2 t2 h2
      have hq2 := c1.m
      cases h3 : pSE tp n rs (d + 1) q2 44 t2 with
      | error x => rw [h3] at h; exact absurd h (by simp)
      | ok r3 =>
        obtain ⟨e3, q3, t3⟩ := r3
        rw [h3] at h
        dsimp only at h
        obtain ⟨d1, d2, d3, d4⟩ := pSE_ok (c := 44) (hr q2 t2 c3 hq2) e3 q3 t3 h3
        have hq3 := d1.m
        cases h4 : pSE tp n rs (d + 1) q3 41 t3 with
        | error x => rw [h4] at h; exact absurd h (by simp)
        | ok r4 =>
          obtain ⟨e4, q4, t4⟩ := r4
          rw [h4] at h
          obtain ⟨f1, f2, f3, f4⟩ := pSE_ok (c := 41) (hr q3 t3 d3 hq3) e4 q4 t4 h4
          have hh := Except.ok.inj h
          have g1 : e2 ++ e3 ++ e4 ++ [(3, 0)] = e := (Prod.mk.inj hh).1
          have g2 : q4 = q := (Prod.mk.inj (Prod.mk.inj hh).2).1
          have g3 : t4 = t' := (Prod.mk.inj (Prod.mk.inj hh).2).2
          subst g1
          subst g2
          subst g3
          refine ⟨c1.if_ d1 f1, ?_, f3, by omega⟩
          simp only [List.length_append, List.length_singleton]
          omega
theorem pPt_ok (W : A.g.WF) (hp : p < A.g.nP) {rs : Nat → Nat → Tk → ER} {d pa : Nat} {t : Tk} (ht : isT tp n t) (hpa : pa ≤ 24) (hr : ∀ pa t, isT tp n t → pa ≤ 24 → okE tp n A p pa t (rs (d + 1) pa t)) : okE tp n A p pa t (pPt tp n A p rs d pa t) := by
  intro e q t' h
  unfold pPt at h
  by_cases h1 : t.kd = 3
  · rw [if_pos h1] at h
    exact pNum_ok W hp hpa ht h1 e q t' h
  rw [if_neg h1] at h
  by_cases h2 : isW tp t 5 = true
  · rw [if_pos h2] at h
    by_cases h3 : pa = 24
    · rw [if_pos h3] at h; exact absurd h (by simp)
    · rw [if_neg h3] at h
      have hh := Except.ok.inj h
      have g1 : [(1, 0)] = e := (Prod.mk.inj hh).1
      have g2 : pa + 1 = q := (Prod.mk.inj (Prod.mk.inj hh).2).1
      have g3 : nxt tp n t = t' := (Prod.mk.inj (Prod.mk.inj hh).2).2
      subst g1
      subst g2
      subst g3
      have := ht.up (w_ne h2)
      refine ⟨exK.leaf (by omega) (by omega) (by omega) (fun h => absurd h (by decide)), ?_, ht.nx, Nat.le_refl _⟩
      show t.fr + 1 ≤ _
      omega
  rw [if_neg h2] at h
  by_cases h3 : isW tp t 8 = true
  · rw [if_pos h3] at h
    have := ht.up (w_ne h3)
    obtain ⟨a1, a2, a3, a4⟩ := pIf_ok ht.nx hpa hr e q t' h
    exact ⟨a1, by omega, a3, a4⟩
  rw [if_neg h3] at h
  cases h4 : pOpn tp n d t with
  | error x => rw [h4] at h; exact absurd h (by simp)
  | ok t1 =>
    rw [h4] at h
    obtain ⟨_, _, _, b1, b2⟩ := pOpn_ok ht h4
    obtain ⟨a1, a2, a3, a4⟩ := pSE_ok (c := 41) (hr pa t1 b2 hpa) e q t' h
    exact ⟨a1, by omega, a3, a4⟩
theorem jnt_ok {t : Tk} {c : Nat} (h : jnt tp t = some c) : t.kd ≠ 0 ∧ 3 < c ∧ c < 1000 := by
  unfold jnt at h
  by_cases h1 : isW tp t 6 = true
  · rw [if_pos h1] at h
    have := Option.some.inj h
    exact ⟨w_ne h1, by omega, by omega⟩
  rw [if_neg h1] at h
  by_cases h2 : isW tp t 7 = true
  · rw [if_pos h2] at h
    have := Option.some.inj h
    exact ⟨w_ne h2, by omega, by omega⟩
  rw [if_neg h2] at h
  by_cases h3 : (isSg t 43 || isSg t 45 || isSg t 42 || isSg t 124 || isSg t 38 || isSg t 60) = true
  · rw [if_pos h3] at h
    have e := Option.some.inj h
    simp only [Bool.or_eq_true] at h3
    rcases h3 with ((((h3 | h3) | h3) | h3) | h3) | h3 <;> (have := (isSg_iff.1 h3).2; exact ⟨sg_ne h3, by omega, by omega⟩)
  · rw [if_neg h3] at h; exact absurd h (by simp)
theorem pJn_ok {pt : Nat → Tk → ER} (hr : ∀ pa t, isT tp n t → pa ≤ 24 → okE tp n A p pa t (pt pa t)) : ∀ (f : Nat) {e0 : Ex} {pa0 pa : Nat} {t0 t : Tk}, exK A p e0 pa0 pa → t0.fr + e0.length ≤ t.fr → isT tp n t → pa0 + 1 ≤ pa → okE tp n A p pa0 t0 (pJn tp n pt f e0 pa t)
  | 0, e0, pa0, pa, t0, t, _, _, _, _ => by
    intro e q t' h
    have h' : (Except.error _ : ER) = .ok _ := h
    exact absurd h' (by simp)
  | f + 1, e0, pa0, pa, t0, t, K, hl, ht, hq => by
    intro e q t' h
    unfold pJn at h
    cases hj : jnt tp t with
    | none =>
      rw [hj] at h
      have hh := Except.ok.inj h
      have g1 : e0 = e := (Prod.mk.inj hh).1
      have g2 : pa = q := (Prod.mk.inj (Prod.mk.inj hh).2).1
      have g3 : t = t' := (Prod.mk.inj (Prod.mk.inj hh).2).2
      subst g1
      subst g2
      subst g3
      exact ⟨K, hl, ht, hq⟩
    | some c =>
      rw [hj] at h
      dsimp only at h
      obtain ⟨j1, j2, j3⟩ := jnt_ok hj
      have hu := ht.up j1
      cases h1 : pt pa (nxt tp n t) with
      | error x => rw [h1] at h; exact absurd h (by simp)
      | ok r =>
        obtain ⟨e1, q1, t1⟩ := r
        rw [h1] at h
        dsimp only at h
        obtain ⟨a1, a2, a3, a4⟩ := hr pa (nxt tp n t) ht.nx K.m e1 q1 t1 h1
        refine pJn_ok hr f (K.two a1 j2 j3) ?_ a3 (by omega) e q t' h
        simp only [List.length_append, List.length_singleton]
        omega
theorem pSm_ok (W : A.g.WF) (hp : p < A.g.nP) : ∀ (f d pa : Nat) (t : Tk), isT tp n t → pa ≤ 24 → okE tp n A p pa t (pSm tp n A p f d pa t)
  | 0, d, pa, t, _, _ => by
    intro e q t' h
    have h' : (Except.error _ : ER) = .ok _ := h
    exact absurd h' (by simp)
  | f + 1, d, pa, t, ht, hpa => by
    intro e q t' h
    unfold pSm at h
    cases h1 : pPt tp n A p (pSm tp n A p f) d pa t with
    | error x => rw [h1] at h; exact absurd h (by simp)
    | ok r =>
      obtain ⟨e1, q1, t1⟩ := r
      rw [h1] at h
      dsimp only at h
      obtain ⟨a1, a2, a3, a4⟩ := pPt_ok W hp ht hpa (fun pa t ht hpa => pSm_ok W hp f (d + 1) pa t ht hpa) e1 q1 t1 h1
      exact pJn_ok (fun pa t ht hpa => pPt_ok W hp ht hpa (fun pa t ht hpa => pSm_ok W hp f (d + 1) pa t ht hpa)) 26 a1 a2 a3 a4 e q t' h
end
