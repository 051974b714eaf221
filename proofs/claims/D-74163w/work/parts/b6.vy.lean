/-! plain: vy -/
set_option maxRecDepth 100000
section
variable {G : Gv} {ind : Nat → Int32} {p : Nat} {x : PSt}

/-- a plan's codes: marks, rules, visits of children. -/
def cdOk (G : Gv) (p : Nat) (v : Int32) : Prop := isMk v = true ∨ isRl v = true ∨ ∃ c, 1 ≤ c ∧ c ≤ G.kn p ∧ isCh c v = true
theorem Gv.plS_cd (W : G.WF) (hp : p < G.nP) (hB : ∀ k, k ≤ G.kn p → G.VB ind (G.sy p k)) (N : G.PlI ind p x) (hv : x.1 ≤ G.vs ind (G.sy p 0)) (h : ∀ v, v ∈ x.2.2.2 → cdOk G p v) : ∀ v, v ∈ (G.plS ind p x).2.2.2 → cdOk G p v := by
  have hk3 := W.kn p hp
  have v9 := (hB 0 (Nat.zero_le _)).vs9
  have app : ∀ a, cdOk G p a → ∀ v, v ∈ x.2.2.2 ++ [a] → cdOk G p v := fun a ha v hv => by
    rcases List.mem_append.1 hv with h1 | h1
    · exact h v h1
    · rw [List.mem_singleton.1 h1]; exact ha
  unfold Gv.plS
  split
  · exact app _ (.inl (cd_m (v := x.1) (by omega)).1)
  · cases hR : G.nxR p x.2.1 with
    | some o0 =>
      obtain ⟨ho0, _, _⟩ := Gv.nxR_iff.1 hR
      exact app _ (.inr (.inl (cd_r (v := o0) (by omega)).2.1))
    | none =>
      dsimp only
      cases hC : G.nxC ind p x.2.1 x.2.2.1 with
      | none => exact h
      | some c0 =>
        obtain ⟨c1, c2, c3, c4⟩ := Gv.nxC_some hC
        have hw : x.2.2.1 c0 ≤ G.vs ind (G.sy p c0) := N.wt c0 c1 c2
        have hw9 := (hB c0 c2).vs9
        have m3 := (cd_c (c := c0) (v := x.2.2.1 c0 + 1) (by omega) (by omega)).2.2
        exact app _ (.inr (.inr ⟨c0, c1, c2, (m3 c0 (by omega)).2 rfl⟩))
theorem Gv.IsPl.cds (W : G.WF) (hp : p < G.nP) (hB : ∀ k, k ≤ G.kn p → G.VB ind (G.sy p k)) (h : G.IsPl ind p x) : ∀ v, v ∈ x.2.2.2 → cdOk G p v := by
  obtain ⟨k, rfl, h1, h2⟩ := h
  have key : ∀ k, (∀ j, j < k → (G.plK ind p j).1 ≤ G.vs ind (G.sy p 0)) → ∀ v, v ∈ (G.plK ind p k).2.2.2 → cdOk G p v := by
    intro k
    induction k with
    | zero => intro _ v hv; exact absurd hv (by simp [Gv.plK, Gv.pl0])
    | succ k ih =>
      intro hj
      obtain ⟨a, _⟩ := Gv.plK_IJ W hp hB k (fun j hj' => hj j (by omega))
      exact Gv.plS_cd W hp hB a (hj k (by omega)) (ih (fun j hj' => hj j (by omega)))
  exact key k h2
end
