/-! plain: vv -/
set_option maxRecDepth 100000
section
variable {G : Gv}

/-- a circle's round, once told, stays. -/
def CrU (r : Nat) (t u : SSt) : Prop := u.cr = t.cr ∨ (t.cr = 0 ∧ u.cr = r)
theorem CrU.refl (r : Nat) (t : SSt) : CrU r t t := .inl rfl
theorem CrU.trans {r : Nat} {t u v : SSt} (h : CrU r t u) (g : CrU r u v) : CrU r t v := by
  unfold CrU at *
  omega
theorem SSt.keep_cr (r : Nat) (t : SSt) (s : Nat) (v : Int32) : CrU r t (t.keep s v) := by
  unfold SSt.keep
  split
  · exact .inl rfl
  · split
    · exact .inl rfl
    · exact .inl rfl
theorem SSt.crc_cr (t : SSt) (r : Nat) (b : Bool) : CrU r t (t.crc r b) := by
  unfold SSt.crc
  split
  · rename_i h
    exact .inr ⟨h.1, rfl⟩
  · exact .inl rfl
theorem Gv.shBy_cr (p r : Nat) (f : Nat → Int32) (t : SSt) : CrU r t (G.shBy p r f t) := (t.crc_cr r _).trans (SSt.keep_cr r _ _ _)
theorem itN_cr {r : Nat} {f : Nat → SSt → SSt} (h : ∀ k t, CrU r t (f k t)) : ∀ n t, CrU r t (itN f n t)
  | 0, t => CrU.refl r t
  | n + 1, t => (itN_cr h n t).trans (h n _)
theorem Gv.shCh_cr (p r : Nat) (ah : Nat → Nat) : ∀ (d a : Nat) (ch : Nat → Nat) (t : SSt), CrU r t (G.shCh p r ah d a ch t)
  | 0, _, _, t => Gv.shBy_cr p r _ t
  | d + 1, a, ch, t => itN_cr (fun k t' => Gv.shCh_cr p r ah d (a + 1) (updN ch a k) t') _ t
theorem Gv.shRd_cr (r : Nat) (t : SSt) : CrU r t (G.shRd r t) := by
  have h0 : CrU r t (SSt.mk t.mn t.sh t.cr t.mu false) := .inl rfl
  refine h0.trans ?_
  unfold Gv.shRd
  refine itN_cr (fun k t' => ?_) _ _
  split
  · exact Gv.shCh_cr _ _ _ _ _ _ _
  · exact CrU.refl _ _
/-- the round of a circle: none yet, or one that is past, and there it came. -/
theorem Gv.shK_cr : ∀ k, (G.shK k).cr = 0 ∨ (1 ≤ (G.shK k).cr ∧ (G.shK k).cr ≤ k ∧ (G.shK (G.shK k).cr).cr = (G.shK k).cr ∧ ∀ j, j < (G.shK k).cr → (G.shK j).cr = 0)
  | 0 => .inl rfl
  | k + 1 => by
    have ih := Gv.shK_cr k
    have st : CrU (k + 1) (G.shK k) (G.shK (k + 1)) := Gv.shRd_cr (k + 1) (G.shK k)
    rcases st with e | ⟨e0, e⟩
    · rw [e]
      rcases ih with h | ⟨h1, h2, h3, h4⟩
      · exact .inl h
      · exact .inr ⟨h1, by omega, h3, h4⟩
    · refine .inr ⟨by omega, by omega, by rw [e, e], fun j hj => ?_⟩
      rw [e] at hj
      -- none before
      have key : ∀ i, i ≤ k → (G.shK (k - i)).cr = 0 := by
        intro i
        induction i with
        | zero => intro _; exact e0
        | succ i ihi =>
          intro hi
          have h1 := ihi (by omega)
          have st2 : CrU (k - i) (G.shK (k - (i + 1))) (G.shK (k - i)) := by
            have e9 : k - i = (k - (i + 1)) + 1 := by omega
            rw [e9]
            exact Gv.shRd_cr _ _
          rcases st2 with e2 | ⟨e2, _⟩
          · rw [← e2]; exact h1
          · exact e2
      have := key (k - j) (by omega)
      rw [show k - (k - j) = j by omega] at this
      exact this
/-- where the rounds end, by circles or not. -/
theorem Gv.shE_two (W : G.WF) : (((G.shK (G.shE false)).cr = 0 ∧ G.shE true = G.shE false) ∨ ((G.shK (G.shE false)).cr ≠ 0 ∧ G.shE true = (G.shK (G.shE false)).cr)) ∧
    G.shE true ≤ G.shE false ∧ 1 ≤ G.shE true ∧ G.shE false ≤ 97 ∧ (G.shK (G.shE true)).cr = (G.shK (G.shE false)).cr ∧ ((G.shK (G.shE true)).mu = true ↔ G.shE true = G.shE false ∧ (G.shK (G.shE false)).mu = true) := by
  obtain ⟨k0, b0, I0⟩ := Gv.shE_ex W false
  obtain ⟨k1, b1, I1⟩ := Gv.shE_ex W true
  rw [Gv.shE_eq I0, Gv.shE_eq I1]
  have one : ((G.shK k0).cr = 0 ∧ k1 = k0) ∨ ((G.shK k0).cr ≠ 0 ∧ k1 = (G.shK k0).cr) := by
    rcases Gv.shK_cr (G := G) k0 with h | ⟨h1, h2, h3, h4⟩
    · refine .inl ⟨h, ?_⟩
      have z : ∀ j, j ≤ k0 → (G.shK j).cr = 0 := by
        have key : ∀ i, i ≤ k0 → (G.shK (k0 - i)).cr = 0 := by
          intro i
          induction i with
          | zero => intro _; exact h
          | succ i ihi =>
            intro hi
            have h1 := ihi (by omega)
            have st2 : CrU (k0 - i) (G.shK (k0 - (i + 1))) (G.shK (k0 - i)) := by
              have e9 : k0 - i = (k0 - (i + 1)) + 1 := by omega
              rw [e9]
              exact Gv.shRd_cr _ _
            rcases st2 with e2 | ⟨e2, _⟩
            · rw [← e2]; exact h1
            · exact e2
        intro j hj
        have := key (k0 - j) (by omega)
        rw [show k0 - (k0 - j) = j by omega] at this
        exact this
      refine I1.uniq ⟨I0.1, fun hh => I0.2.1 ⟨hh.1, hh.2.1, .inl rfl⟩, fun j h1 h2 => ?_⟩
      have := I0.2.2 j h1 h2
      exact ⟨this.1, this.2.1, .inr (z j (by omega))⟩
    · refine .inr ⟨by omega, I1.uniq ⟨h1, fun hh => ?_, fun j j1 j2 => ?_⟩⟩
      · rcases hh.2.2 with e | e
        · exact absurd e (by simp)
        · rw [h3] at e; omega
      · have := I0.2.2 j j1 (by omega)
        exact ⟨this.1, this.2.1, .inr (h4 j j2)⟩
  have hle : k1 ≤ k0 := by
    rcases one with h | h
    · omega
    · rcases Gv.shK_cr (G := G) k0 with h' | ⟨h1, h2, h3, h4⟩
      · exact absurd h' h.1
      · omega
  refine ⟨one, hle, I1.1, b0, ?_, ?_⟩
  · rcases one with h | h
    · rw [h.2]
    · rcases Gv.shK_cr (G := G) k0 with h' | ⟨h1, h2, h3, h4⟩
      · exact absurd h' h.1
      · rw [h.2]; exact h3
  · constructor
    · intro hm
      by_cases e : k1 = k0
      · rw [e] at hm; exact ⟨e, hm⟩
      · have := I0.2.2 k1 I1.1 (by omega)
        rw [this.2.1] at hm
        exact absurd hm (by decide)
    · rintro ⟨e, hm⟩
      rw [e]; exact hm
end
