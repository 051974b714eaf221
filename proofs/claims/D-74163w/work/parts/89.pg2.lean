/-! plain: pg2 -/
set_option maxRecDepth 100000
section
variable {tp : Nat → Nat} {n : Nat} {A : PG} {p : Nat}

theorem pAt_fr : ∀ {f : Nat} {t : Tk} {an an' : Nat → List Nat} {c had c' : Nat} {t' : Tk}, isT tp n t → pAt tp n f t an c had = .ok (an', c', t') → t.fr + 1 ≤ t'.fr ∧ isT tp n t' ∧ c ≤ c' ∧ (c - had ≤ 4 → c' - had ≤ 4)
  | 0, _, _, _, _, _, _, _, _, h => by
    have h' : (Except.error _ : Except Fl _) = .ok _ := h
    exact absurd h' (by simp)
  | f + 1, t, an, an', c, had, c', t', ht, h => by
    unfold pAt at h
    by_cases h1 : isNm tp t = true
    · rw [if_pos h1] at h
      have hu := ht.up (nm_ne h1)
      by_cases h2 : (fdN an c (wrd tp t)).isSome = true
      · rw [if_pos h2] at h; exact absurd h (by simp)
      · rw [if_neg h2] at h
        by_cases h3 : c - had = 4
        · rw [if_pos h3] at h; exact absurd h (by simp)
        · rw [if_neg h3] at h
          by_cases h4 : isNm tp (nxt tp n t) = true
          · rw [if_pos h4] at h
            have := pAt_fr ht.nx h
            exact ⟨by omega, this.2.1, by omega, fun hh => this.2.2.2 (by omega)⟩
          · rw [if_neg h4] at h
            have hh := Except.ok.inj h
            have e1 := (Prod.mk.inj (Prod.mk.inj hh).2).1
            have e2 := (Prod.mk.inj (Prod.mk.inj hh).2).2
            subst e2
            exact ⟨hu, ht.nx, by omega, fun hh => by omega⟩
    · rw [if_neg h1] at h; exact absurd h (by simp)
theorem pSd_fr {k : Nat} {t : Tk} {an : Nat → List Nat} {c : Nat} {q : (Nat → List Nat) × Nat × Tk} (ht : isT tp n t) (h : pSd tp n k t an c = .ok q) : t.fr ≤ q.2.2.fr ∧ isT tp n q.2.2 ∧ c ≤ q.2.1 ∧ q.2.1 ≤ c + 4 := by
  unfold pSd at h
  by_cases h1 : isW tp t k = true
  · rw [if_pos h1] at h
    obtain ⟨an', c', t'⟩ := q
    have hu := ht.up (w_ne h1)
    have := pAt_fr ht.nx h
    have h4 := this.2.2.2 (by omega)
    exact ⟨by show t.fr ≤ t'.fr; omega, this.2.1, this.2.2.1, by show c' ≤ c + 4; omega⟩
  · rw [if_neg h1] at h
    have := Except.ok.inj h
    subst this
    exact ⟨Nat.le_refl _, ht, Nat.le_refl _, by show c ≤ c + 4; omega⟩
theorem pSy_fr {t t' : Tk} {A' : PG} (ht : isT tp n t) (h : pSy tp n A t = .ok (A', t')) : t.fr ≤ t'.fr ∧ isT tp n t' ∧ A'.g.nP = A.g.nP := by
  unfold pSy at h
  by_cases h8 : A.g.nS = 8
  · rw [if_pos h8] at h; exact absurd h (by simp)
  rw [if_neg h8] at h
  by_cases h1 : isNm tp (nxt tp n t) = true
  · rw [if_pos h1] at h
    by_cases h2 : (fdN A.sn A.g.nS (wrd tp (nxt tp n t))).isSome = true
    · rw [if_pos h2] at h; exact absurd h (by simp)
    rw [if_neg h2] at h
    have l1 := ht.le
    have l2 := ht.nx.le
    cases h3 : pSd tp n 3 (nxt tp n (nxt tp n t)) (fun _ => []) 0 with
    | error e => rw [h3] at h; exact absurd h (by simp)
    | ok q =>
      rw [h3] at h
      dsimp only at h
      obtain ⟨a1, a2, _⟩ := pSd_fr ht.nx.nx h3
      cases h4 : pSd tp n 4 q.2.2 q.1 q.2.1 with
      | error e => rw [h4] at h; exact absurd h (by simp)
      | ok r =>
        rw [h4] at h
        obtain ⟨b1, b2, _⟩ := pSd_fr a2 h4
        have hh := Except.ok.inj h
        have e1 := (Prod.mk.inj hh).1
        have e2 := (Prod.mk.inj hh).2
        subst e1
        subst e2
        exact ⟨by omega, b2, rfl⟩
  · rw [if_neg h1] at h; exact absurd h (by simp)
theorem pKd_fr : ∀ {f : Nat} {t : Tk} {ks : Nat → Nat} {c : Nat} {q : (Nat → Nat) × Nat × Tk}, isT tp n t → pKd tp n A f t ks c = .ok q → t.fr ≤ q.2.2.fr ∧ isT tp n q.2.2
  | 0, _, _, _, _, _, h => by
    have h' : (Except.error _ : Except Fl _) = .ok _ := h
    exact absurd h' (by simp)
  | f + 1, t, ks, c, q, ht, h => by
    unfold pKd at h
    by_cases h1 : isNm tp t = true
    · rw [if_pos h1] at h
      cases h2 : fdN A.sn A.g.nS (wrd tp t) with
      | none => rw [h2] at h; exact absurd h (by simp)
      | some s =>
        rw [h2] at h
        dsimp only at h
        by_cases h3 : c = 3
        · rw [if_pos h3] at h; exact absurd h (by simp)
        · rw [if_neg h3] at h
          have := pKd_fr ht.nx h
          have l := ht.le
          exact ⟨by omega, this.2⟩
    · rw [if_neg h1] at h
      have := Except.ok.inj h
      subst this
      exact ⟨Nat.le_refl _, ht⟩
theorem pPr_fr {t t' : Tk} {A' : PG} (ht : isT tp n t) (hk : t.kd ≠ 0) (h : pPr tp n A t = .ok (A', t')) : t.fr + 4 ≤ t'.fr ∧ isT tp n t' ∧ A'.g.nP = A.g.nP + 1 := by
  unfold pPr at h
  by_cases h8 : A.g.nP = 12
  · rw [if_pos h8] at h; exact absurd h (by simp)
  rw [if_neg h8] at h
  by_cases h1 : isNm tp (nxt tp n t) = true
  · rw [if_pos h1] at h
    by_cases h2 : (fdN A.pn A.g.nP (wrd tp (nxt tp n t))).isSome = true
    · rw [if_pos h2] at h; exact absurd h (by simp)
    rw [if_neg h2] at h
    by_cases h3 : isSg (nxt tp n (nxt tp n t)) 58 = true
    · rw [if_pos h3] at h
      have l1 := ht.up hk
      have l2 := ht.nx.up (nm_ne h1)
      have l3 := ht.nx.nx.up (sg_ne h3)
      unfold pPr3 at h
      by_cases h4 : isNm tp (nxt tp n (nxt tp n (nxt tp n t))) = true
      · rw [if_pos h4] at h
        have l4 := ht.nx.nx.nx.up (nm_ne h4)
        cases h5 : fdN A.sn A.g.nS (wrd tp (nxt tp n (nxt tp n (nxt tp n t)))) with
        | none => rw [h5] at h; exact absurd h (by simp)
        | some s =>
          rw [h5] at h
          dsimp only at h
          cases h6 : pKd tp n A 5 (nxt tp n (nxt tp n (nxt tp n (nxt tp n t)))) (fun _ => s) 0 with
          | error e => rw [h6] at h; exact absurd h (by simp)
          | ok q =>
            rw [h6] at h
            have k := pKd_fr ht.nx.nx.nx.nx h6
            have hh := Except.ok.inj h
            have e1 := (Prod.mk.inj hh).1
            have e2 := (Prod.mk.inj hh).2
            subst e1
            subst e2
            exact ⟨by omega, k.2, rfl⟩
      · rw [if_neg h4] at h; exact absurd h (by simp)
    · rw [if_neg h3] at h; exact absurd h (by simp)
  · rw [if_neg h1] at h; exact absurd h (by simp)
theorem fdN_lt {f : Nat → List Nat} {m k : Nat} {w : List Nat} (h : fdN f m w = some k) : k < m := (fstN_some.1 h).1
theorem pRl_fr (W : A.g.WF) {t t' : Tk} {A' : PG} (ht : isT tp n t) (h : pRl tp n A t = .ok (A', t')) : t.fr ≤ t'.fr ∧ isT tp n t' ∧ A'.g.nP = A.g.nP := by
  unfold pRl at h
  by_cases h1 : isNm tp (nxt tp n t) = true
  · rw [if_pos h1] at h
    cases h2 : fdN A.pn A.g.nP (wrd tp (nxt tp n t)) with
    | none => rw [h2] at h; exact absurd h (by simp)
    | some p =>
      rw [h2] at h
      dsimp only at h
      have hp := fdN_lt h2
      have l1 := ht.le
      have l2 := ht.nx.le
      unfold pRl2 at h
      by_cases h3 : (nxt tp n (nxt tp n t)).kd = 3
      · rw [if_pos h3] at h
        by_cases h4 : (nxt tp n (nxt tp n t)).nu ≤ A.g.kn p
        · rw [if_pos h4] at h
          have l3 := ht.nx.nx.le
          cases h5 : pOc tp n A p (nxt tp n (nxt tp n t)).nu (nxt tp n (nxt tp n (nxt tp n t))) with
          | error e => rw [h5] at h; exact absurd h (by simp)
          | ok q =>
            obtain ⟨o, t4⟩ := q
            rw [h5] at h
            dsimp only at h
            obtain ⟨o1, o2, o3, o4, o5⟩ := pOc_ok W hp h4 ht.nx.nx.nx h5
            by_cases h6 : A.g.tl p o ∧ A.g.rl p o = none
            · rw [if_pos h6] at h
              cases h7 : pEat tp n 61 (nxt tp n t4) with
              | error e => rw [h7] at h; exact absurd h (by simp)
              | ok t5 =>
                rw [h7] at h
                dsimp only at h
                have l4 := o4.le
                obtain ⟨e1, e2, e3, e4⟩ := pEat_ok o4.nx h7
                cases h8 : pSm tp n A p 9 0 0 t5 with
                | error e => rw [h8] at h; exact absurd h (by simp)
                | ok r =>
                  obtain ⟨e, q, t6⟩ := r
                  rw [h8] at h
                  obtain ⟨s1, s2, s3, s4⟩ := pSm_ok W hp 9 0 0 t5 e4 (by omega) e q t6 h8
                  have hh := Except.ok.inj h
                  have f1 := (Prod.mk.inj hh).1
                  have f2 := (Prod.mk.inj hh).2
                  have f2' : t6 = t' := f2
                  subst f1
                  subst f2'
                  exact ⟨by omega, s3, rfl⟩
            · rw [if_neg h6] at h; exact absurd h (by simp)
        · rw [if_neg h4] at h; exact absurd h (by simp)
      · rw [if_neg h3] at h; exact absurd h (by simp)
  · rw [if_neg h1] at h; exact absurd h (by simp)
theorem pLn_fr (W : A.g.WF) {t t' : Tk} {A' : PG} (ht : isT tp n t) (h : pLn tp n A t = .ok (A', t')) : t.fr + 1 ≤ t'.fr ∧ isT tp n t' ∧ (4 * A.g.nP ≤ t.fr → 4 * A'.g.nP ≤ t'.fr) := by
  unfold pLn at h
  cases h1 : pLn0 tp n A t with
  | error e => rw [h1] at h; exact absurd h (by simp)
  | ok q =>
    obtain ⟨A1, t1⟩ := q
    rw [h1] at h
    dsimp only at h
    cases h2 : pEat tp n 59 t1 with
    | error e => rw [h2] at h; exact absurd h (by simp)
    | ok t2 =>
      rw [h2] at h
      have hh := Except.ok.inj h
      have f1 : A1 = A' := (Prod.mk.inj hh).1
      have f2 : t2 = t' := (Prod.mk.inj hh).2
      subst f1
      subst f2
      unfold pLn0 at h1
      have key : t.fr ≤ t1.fr ∧ isT tp n t1 ∧ (4 * A.g.nP ≤ t.fr → 4 * A1.g.nP ≤ t1.fr) := by
        by_cases w0 : isW tp t 0 = true
        · rw [if_pos w0] at h1
          obtain ⟨a, b, c⟩ := pSy_fr ht h1
          exact ⟨a, b, fun hh => by rw [c]; omega⟩
        rw [if_neg w0] at h1
        by_cases w1 : isW tp t 1 = true
        · rw [if_pos w1] at h1
          obtain ⟨a, b, c⟩ := pPr_fr ht (w_ne w1) h1
          exact ⟨by omega, b, fun hh => by rw [c]; omega⟩
        rw [if_neg w1] at h1
        by_cases w2 : isW tp t 2 = true
        · rw [if_pos w2] at h1
          obtain ⟨a, b, c⟩ := pRl_fr W ht h1
          exact ⟨a, b, fun hh => by rw [c]; omega⟩
        rw [if_neg w2] at h1
        exact absurd h1 (by simp)
      obtain ⟨e1, e2, e3, e4⟩ := pEat_ok key.2.1 h2
      exact ⟨by omega, e4, fun hh => by have := key.2.2 hh; omega⟩

theorem sN_up {f g : Nat → Nat} {i : Nat} : ∀ {n : Nat}, i < n → (∀ o, o < n → o ≠ i → g o = f o) → g i = f i + 1 → sN g n = sN f n + 1
  | 0, h, _, _ => absurd h (Nat.not_lt_zero _)
  | n + 1, h, h1, h2 => by
    show sN g n + g n = sN f n + f n + 1
    by_cases e : i = n
    · subst e
      rw [sN_congr (g := f) (fun o ho => h1 o (Nat.lt_succ_of_lt ho) (by omega)), h2]
      omega
    · rw [sN_up (i := i) (f := f) (by omega) (fun o ho => h1 o (Nat.lt_succ_of_lt ho)) h2, h1 n (Nat.lt_succ_self _) (fun hh => e hh.symm)]
      omega
theorem nRl_addR {o : Nat} {e : Ex} (hp : p < A.g.nP) (ho : o < 32) (hn : A.g.rl p o = none) : nRl (A.addR p o e).g = nRl A.g + 1 := by
  refine sN_up (i := p) hp (fun p' hp' hne => ?_) ?_
  · refine cnP_congr (fun o' _ => ?_)
    show updN A.g.rl p _ p' o' ≠ none ↔ _
    rw [updN_ne _ _ hne]
  · show cnP (fun o' => updN A.g.rl p (updN (A.g.rl p) o (some e)) p o' ≠ none) 32 = cnP (fun o' => A.g.rl p o' ≠ none) 32 + 1
    rw [← cnP_add ho (fun hh => hh hn)]
    refine cnP_congr (fun o' _ => ?_)
    rw [updN_same]
    by_cases e' : o' = o
    · subst e'
      rw [updN_same]
      exact ⟨fun _ => .inr rfl, fun _ => by simp⟩
    · rw [updN_ne _ _ e']
      exact ⟨.inl, fun hh => hh.elim id (fun hh => absurd hh e')⟩
end
