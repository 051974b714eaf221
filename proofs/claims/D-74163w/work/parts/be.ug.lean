/-! plain: ug -/
set_option maxRecDepth 100000
section
variable {A : PG} {V V' : Tv} {sz sz' : Nat → Nat} {k : Nat} {P : PT} {gv : Nat → Int32} {S0 S : Ist}

/-- the old number of an instance that is not new. -/
def sgU (k s m i : Nat) : Nat := if i / 8 ≤ k then i else i + 8 * s - 8 * m
/-- a tree, a part of it, what comes in its place, the tree then. -/
def GrK (A : PG) (V : Tv) (sz : Nat → Nat) (k : Nat) (P : PT) (V' : Tv) (sz' : Nat → Nat) : Prop :=
  (SpR V sz k P V' sz') ∧
  (trK A V sz) ∧
  (trK A P.V P.sz) ∧
  (trK A V' sz') ∧
  (k < V.n) ∧
  (A.g.sy (P.V.pd 0) 0 = A.g.sy (V.pd k) 0) ∧
  (A.g.WF) ∧
  (A.g.RL)
theorem GrK.Z {A : PG} {V : Tv} {sz : Nat → Nat} {k : Nat} {P : PT} {V' : Tv} {sz' : Nat → Nat} (h9 : GrK A V sz k P V' sz') : SpR V sz k P V' sz' := h9.1
theorem GrK.K {A : PG} {V : Tv} {sz : Nat → Nat} {k : Nat} {P : PT} {V' : Tv} {sz' : Nat → Nat} (h9 : GrK A V sz k P V' sz') : trK A V sz := h9.2.1
theorem GrK.KP {A : PG} {V : Tv} {sz : Nat → Nat} {k : Nat} {P : PT} {V' : Tv} {sz' : Nat → Nat} (h9 : GrK A V sz k P V' sz') : trK A P.V P.sz := h9.2.2.1
theorem GrK.KN {A : PG} {V : Tv} {sz : Nat → Nat} {k : Nat} {P : PT} {V' : Tv} {sz' : Nat → Nat} (h9 : GrK A V sz k P V' sz') : trK A V' sz' := h9.2.2.2.1
theorem GrK.hk {A : PG} {V : Tv} {sz : Nat → Nat} {k : Nat} {P : PT} {V' : Tv} {sz' : Nat → Nat} (h9 : GrK A V sz k P V' sz') : k < V.n := h9.2.2.2.2.1
theorem GrK.sy {A : PG} {V : Tv} {sz : Nat → Nat} {k : Nat} {P : PT} {V' : Tv} {sz' : Nat → Nat} (h9 : GrK A V sz k P V' sz') : A.g.sy (P.V.pd 0) 0 = A.g.sy (V.pd k) 0 := h9.2.2.2.2.2.1
theorem GrK.W {A : PG} {V : Tv} {sz : Nat → Nat} {k : Nat} {P : PT} {V' : Tv} {sz' : Nat → Nat} (h9 : GrK A V sz k P V' sz') : A.g.WF := h9.2.2.2.2.2.2.1
theorem GrK.RL {A : PG} {V : Tv} {sz : Nat → Nat} {k : Nat} {P : PT} {V' : Tv} {sz' : Nat → Nat} (h9 : GrK A V sz k P V' sz') : A.g.RL := h9.2.2.2.2.2.2.2
theorem GrK.m1 (G : GrK A V sz k P V' sz') : 1 ≤ P.V.n ∧ 1 ≤ sz k ∧ k + sz k ≤ V.n ∧ V'.n + sz k = V.n + P.V.n := ⟨G.KP.n1, (G.K.ends G.hk).1, (G.K.ends G.hk).2, G.Z.nn⟩
theorem GrK.node (G : GrK A V sz k P V' sz') {e : Nat} (he : e < V'.n) (hn : ¬ (k < e ∧ e < k + P.V.n)) : ∃ j, j < V.n ∧ stU k (sz k) j ∧ rnU k (sz k) P.V.n j = e ∧ (e ≤ k → j = e) ∧ (k < e → j + P.V.n = e + sz k) := by
  obtain ⟨m1, m2, m3, m4⟩ := G.m1
  by_cases h : e ≤ k
  · exact ⟨e, by omega, .inl h, rnU_le h, fun _ => rfl, fun hh => by omega⟩
  · refine ⟨e + sz k - P.V.n, by omega, .inr (by omega), ?_, fun hh => absurd hh h, fun _ => by omega⟩
    rw [rnU_gt (by omega)]; omega
theorem sg_rn {s m j a : Nat} (hm : 1 ≤ m) (hs : 1 ≤ s) (h : stU k s j) (ha : a < 8) : sgU k s m (8 * rnU k s m j + a) = 8 * j + a ∧ ¬ gNew k m (8 * rnU k s m j + a) ∧ (rnU k s m j = k ↔ j = k) := by
  have e : (8 * rnU k s m j + a) / 8 = rnU k s m j := by omega
  unfold sgU gNew
  rw [e]
  by_cases hj : j ≤ k
  · rw [rnU_le hj, if_pos hj]
    exact ⟨rfl, by omega, Iff.rfl⟩
  · have hj2 : k + s ≤ j := by rcases h with h | h <;> omega
    rw [rnU_gt (by omega), if_neg (by omega)]
    exact ⟨by omega, by omega, by omega⟩
theorem GrK.sg (G : GrK A V sz k P V' sz') {i : Nat} (hi : i / 8 < V'.n) (hn : ¬ gNew k P.V.n i) : ∃ j, j < V.n ∧ stU k (sz k) j ∧ rnU k (sz k) P.V.n j = i / 8 ∧ sgU k (sz k) P.V.n i = 8 * j + i % 8 ∧ (j = k ↔ i / 8 = k) := by
  obtain ⟨m1, m2, m3, m4⟩ := G.m1
  obtain ⟨j, h1, h2, h3, h4, h5⟩ := G.node hi hn
  obtain ⟨a1, a2, a3⟩ := sg_rn (m := P.V.n) (a := i % 8) m1 m2 h2 (by omega)
  rw [h3, show 8 * (i / 8) + i % 8 = i by omega] at a1
  rw [h3] at a3
  exact ⟨j, h1, h2, h3, a1, a3.symm⟩
theorem GrK.sm (G : GrK A V sz k P V' sz') {j : Nat} (h : stU k (sz k) j) : V'.sm A.g (rnU k (sz k) P.V.n j) = V.sm A.g j := by
  by_cases e : j = k
  · subst e
    unfold Tv.sm
    rw [rnU_le (Nat.le_refl _), ← G.sy]
    have := G.Z.pdP 0 G.KP.n1
    rw [Nat.add_zero] at this
    rw [this]
  · unfold Tv.sm
    rw [G.Z.pd j h e]
theorem GrK.vis (G : GrK A V sz k P V' sz') {i : Nat} (hi : V'.is A.g i) (hn : ¬ gNew k P.V.n i) : V.is A.g (sgU k (sz k) P.V.n i) := by
  obtain ⟨j, h1, h2, h3, h4, h5⟩ := G.sg hi.1 hn
  rw [h4]
  show (8 * j + i % 8) / 8 < V.n ∧ (8 * j + i % 8) % 8 < A.g.cnt (V.sm A.g ((8 * j + i % 8) / 8))
  rw [show (8 * j + i % 8) / 8 = j by omega, show (8 * j + i % 8) % 8 = i % 8 by omega, ← G.sm h2, h3]
  exact ⟨h1, hi.2⟩
/-- its rule stays where it was. -/
def ktU (A : PG) (V : Tv) (k m i : Nat) : Prop := ¬ gNew k m i ∧ ¬ (i / 8 = k ∧ A.g.ins (V.sm A.g k) ≤ i % 8)
theorem GrK.rA (G : GrK A V sz k P V' sz') {i : Nat} (hi : V'.is A.g i) (hr : ktU A V k P.V.n i) : (V.rA A.g (sgU k (sz k) P.V.n i) = none ∧ V'.rA A.g i = none) ∨ ∃ q, q < V.n ∧ stU k (sz k) q ∧ q ≠ k ∧ V.rA A.g (sgU k (sz k) P.V.n i) = some q ∧ V'.rA A.g i = some (rnU k (sz k) P.V.n q) ∧ V'.oO A.g i = V.oO A.g (sgU k (sz k) P.V.n i) := by
  obtain ⟨j, h1, h2, h3, h4, h5⟩ := G.sg hi.1 hr.1
  obtain ⟨m1, m2, m3, m4⟩ := G.m1
  have d1 : (8 * j + i % 8) / 8 = j := by omega
  have d2 : (8 * j + i % 8) % 8 = i % 8 := by omega
  rw [h4]
  unfold Tv.rA Tv.oO
  rw [d1, d2, ← h3, G.sm h2]
  by_cases hin : A.g.ins (V.sm A.g j) ≤ i % 8
  · refine .inr ⟨j, h1, h2, fun e => ?_, if_pos hin, if_pos hin, by rw [if_pos hin, if_pos hin]⟩
    rw [e] at hin
    exact hr.2 ⟨h5.1 e, hin⟩
  · rw [if_neg hin, if_neg hin, if_neg hin, if_neg hin, G.Z.pl j h2]
    by_cases hjk : j ≤ k
    · rw [rnU_le hjk]
      have e1 : V'.pa j = V.pa j := by
        rcases Nat.lt_or_ge j k with l | l
        · exact G.Z.pa1 j l
        · rw [show j = k by omega]; exact G.Z.paK
      rw [e1]
      cases hp : V.pa j with
      | none => exact .inl ⟨rfl, rfl⟩
      | some q =>
        obtain ⟨s1, s2, s3⟩ := G.K.stP G.hk h1 h2 hp
        exact .inr ⟨q, by omega, s1, s2, rfl, by rw [rnU_le (by omega)], rfl⟩
    · have hjs : k + sz k ≤ j := by rcases h2 with h | h <;> omega
      cases hp : V.pa j with
      | none =>
        have := (G.K.WF.root j h1).1 hp
        omega
      | some q =>
        obtain ⟨s1, s2, s3⟩ := G.K.stP G.hk h1 h2 hp
        exact .inr ⟨q, by omega, s1, s2, rfl, G.Z.pa2 j q hjs hp, rfl⟩
theorem GrK.atP (G : GrK A V sz k P V' sz') {q pos : Nat} (hq : q < V.n) (hs : stU k (sz k) q) (hqk : q ≠ k) (hp : pos ≤ A.g.kn (V.pd q)) : V'.atP (rnU k (sz k) P.V.n q) pos = rnU k (sz k) P.V.n (V.atP q pos) ∧ stU k (sz k) (V.atP q pos) := by
  unfold Tv.atP
  by_cases e : pos = 0
  · rw [if_pos e, if_pos e]
    exact ⟨rfl, hs⟩
  · rw [if_neg e, if_neg e]
    exact ⟨G.Z.kd q pos hs hqk, G.K.stK G.hk hq hs hqk (by omega) hp⟩
theorem GrK.ask (G : GrK A V sz k P V' sz') {i : Nat} (hi : V'.is A.g i) (hr : ktU A V k P.V.n i) : V'.ask A.g i = V.ask A.g (sgU k (sz k) P.V.n i) := by
  unfold Tv.ask
  rcases G.rA hi hr with ⟨a, b⟩ | ⟨q, q1, q2, q3, q4, q5, q6⟩
  · rw [a, b]
  · rw [q4, q5]
    show A.g.ask (V'.pd (rnU k (sz k) P.V.n q)) (V'.oO A.g i) = A.g.ask (V.pd q) (V.oO A.g (sgU k (sz k) P.V.n i))
    rw [q6, G.Z.pd q q2 q3]
theorem GrK.oth (G : GrK A V sz k P V' sz') {i b : Nat} (hi : V'.is A.g i) (hr : ktU A V k P.V.n i) (hb : bt (V.ask A.g (sgU k (sz k) P.V.n i)) b = true) : ¬ gNew k P.V.n (V'.oth A.g i b) ∧ sgU k (sz k) P.V.n (V'.oth A.g i b) = V.oth A.g (sgU k (sz k) P.V.n i) b := by
  obtain ⟨m1, m2, m3, m4⟩ := G.m1
  have hv := G.vis hi hr.1
  obtain ⟨q0, r1, r2, r3, r4, r5, _⟩ := G.K.WF.oth_is G.W hv hb
  rcases G.rA hi hr with ⟨a, b'⟩ | ⟨q, q1, q2, q3, q4, q5, q6⟩
  · rw [r1] at a; exact absurd a (by simp)
  · have e : q0 = q := Option.some.inj (r1.symm.trans q4)
    subst e
    have e2 : V'.oth A.g i b = 8 * V'.atP (rnU k (sz k) P.V.n q0) (b / 8) + b % 8 := by unfold Tv.oth; rw [q5]
    obtain ⟨a1, a2⟩ := G.atP q1 q2 q3 r3.2.1
    obtain ⟨s1, s2, _⟩ := sg_rn (k := k) (m := P.V.n) (a := b % 8) m1 m2 a2 (by omega)
    rw [e2, a1, r4]
    exact ⟨s2, s1⟩
theorem GrK.edF (G : GrK A V sz k P V' sz') {i y : Nat} (hi : V'.is A.g i) (hr : ktU A V k P.V.n i) (he : V'.ed A.g i y) : ¬ gNew k P.V.n y ∧ V.ed A.g (sgU k (sz k) P.V.n i) (sgU k (sz k) P.V.n y) := by
  obtain ⟨_, b, hb, h1, h2⟩ := he
  rw [G.ask hi hr] at h1
  obtain ⟨a1, a2⟩ := G.oth hi hr h1
  rw [h2] at a1 a2
  exact ⟨a1, G.vis hi hr.1, b, hb, h1, a2.symm⟩
theorem GrK.edB (G : GrK A V sz k P V' sz') {i y0 : Nat} (hi : V'.is A.g i) (hr : ktU A V k P.V.n i) (he : V.ed A.g (sgU k (sz k) P.V.n i) y0) : ∃ y, V'.ed A.g i y ∧ ¬ gNew k P.V.n y ∧ sgU k (sz k) P.V.n y = y0 := by
  obtain ⟨_, b, hb, h1, h2⟩ := he
  obtain ⟨a1, a2⟩ := G.oth hi hr h1
  exact ⟨V'.oth A.g i b, ⟨hi, b, hb, by rw [G.ask hi hr]; exact h1, rfl⟩, a1, a2.trans h2⟩
theorem GrK.mk (G : GrK A V sz k P V' sz') {i : Nat} (hi : V'.is A.g i) (hr : ktU A V k P.V.n i) {w w' : Vl} (h : ∀ y, V'.ed A.g i y → w' (sgU k (sz k) P.V.n y) = w y) : V.mk A.g gv (sgU k (sz k) P.V.n i) w' = V'.mk A.g gv i w := by
  obtain ⟨j, h1, h2, h3, h4, h5⟩ := G.sg hi.1 hr.1
  have e8 : sgU k (sz k) P.V.n i % 8 = i % 8 := by rw [h4]; omega
  unfold Tv.mk
  rcases G.rA hi hr with ⟨a, b⟩ | ⟨q, q1, q2, q3, q4, q5, q6⟩
  · rw [a, b, e8]
  · rw [q4, q5]
    show (match A.g.rl (V.pd q) (V.oO A.g (sgU k (sz k) P.V.n i)) with | none => 0 | some e => Ex.val (V.nu q) (fun b => w' (8 * V.atP q (b / 8) + b % 8)) e) = (match A.g.rl (V'.pd (rnU k (sz k) P.V.n q)) (V'.oO A.g i) with | none => 0 | some e => Ex.val (V'.nu (rnU k (sz k) P.V.n q)) (fun b => w (8 * V'.atP (rnU k (sz k) P.V.n q) (b / 8) + b % 8)) e)
    rw [q6, G.Z.pd q q2 q3, G.Z.nu q q2 q3]
    cases he : A.g.rl (V.pd q) (V.oO A.g (sgU k (sz k) P.V.n i)) with
    | none => rfl
    | some e =>
      simp only
      refine Ex.val_congr (fun b hb => ?_)
      have hb32 := G.RL.occ _ _ e b (G.K.WF.pd q q1) he hb
      have hbt : bt (V.ask A.g (sgU k (sz k) P.V.n i)) b = true := by
        unfold Tv.ask
        rw [q4]
        show bt (A.g.ask (V.pd q) (V.oO A.g (sgU k (sz k) P.V.n i))) b = true
        unfold Gv.ask
        rw [he]
        exact Ex.asks_bt hb hb32
      obtain ⟨a1, a2⟩ := G.oth hi hr hbt
      have o1 : V'.oth A.g i b = 8 * V'.atP (rnU k (sz k) P.V.n q) (b / 8) + b % 8 := by unfold Tv.oth; rw [q5]
      have o2 : V.oth A.g (sgU k (sz k) P.V.n i) b = 8 * V.atP q (b / 8) + b % 8 := by unfold Tv.oth; rw [q4]
      rw [← o1, ← o2, ← a2]
      exact h _ ⟨hi, b, hb32, by rw [G.ask hi hr]; exact hbt, rfl⟩
theorem sg_mono {s m x y : Nat} (hs : 1 ≤ s) (hx : ¬ gNew k m x) (hy : ¬ gNew k m y) (h : x < y) : sgU k s m x < sgU k s m y := by
  unfold gNew at hx hy
  unfold sgU
  split <;> split <;> omega
theorem sg_inj {s m x y : Nat} (hs : 1 ≤ s) (hx : ¬ gNew k m x) (hy : ¬ gNew k m y) (h : sgU k s m x = sgU k s m y) : x = y := by
  rcases Nat.lt_trichotomy x y with l | e | l
  · have := sg_mono hs hx hy l; omega
  · exact e
  · have := sg_mono hs hy hx l; omega
theorem srt_ext : ∀ (l l' : List Nat), l.Pairwise (fun a b => a < b) → l'.Pairwise (fun a b => a < b) → (∀ x, x ∈ l ↔ x ∈ l') → l = l'
  | [], [], _, _, _ => rfl
  | [], b :: l', _, _, h => absurd ((h b).2 List.mem_cons_self) (by simp)
  | a :: l, [], _, _, h => absurd ((h a).1 List.mem_cons_self) (by simp)
  | a :: l, b :: l', p, p', h => by
    obtain ⟨p1, p2⟩ := List.pairwise_cons.1 p
    obtain ⟨q1, q2⟩ := List.pairwise_cons.1 p'
    have e : a = b := by
      have h1 := (h a).1 List.mem_cons_self
      have h2 := (h b).2 List.mem_cons_self
      rcases List.mem_cons.1 h1 with e | e
      · exact e
      · rcases List.mem_cons.1 h2 with e' | e'
        · exact e'.symm
        · have := q1 a e
          have := p1 b e'
          omega
    subst e
    rw [srt_ext l l' p2 q2 (fun x => ?_)]
    constructor
    · intro hx
      rcases List.mem_cons.1 ((h x).1 (List.mem_cons_of_mem _ hx)) with e | e
      · have := p1 x hx; omega
      · exact e
    · intro hx
      rcases List.mem_cons.1 ((h x).2 (List.mem_cons_of_mem _ hx)) with e | e
      · have := q1 x hx; omega
      · exact e
theorem cls_srt (E : Nat → Nat → Prop) (M i : Nat) : (cls E M i).Pairwise (fun a b => a < b) := List.Pairwise.filter _ List.pairwise_lt_range
theorem due_kt {c s m j : Nat} (h : ¬ gDue S0 k s m c j) : ¬ gNew k m j ∧ ¬ (j / 8 = k ∧ c ≤ j % 8) ∧ ¬ S0.tie (8 * k) (8 * (k + s)) (sgU k s m j) := by
  unfold gDue at h
  have n1 : ¬ gNew k m j := fun hh => h (.inr (.inr (.inl hh)))
  refine ⟨n1, fun hh => h (.inr (.inl ⟨hh.1, .inl hh.2⟩)), fun hh => ?_⟩
  unfold sgU at hh
  unfold gNew at n1
  by_cases e : j / 8 ≤ k
  · rw [if_pos e] at hh
    rcases Nat.lt_or_ge (j / 8) k with l | l
    · exact h (.inl ⟨l, hh⟩)
    · exact h (.inr (.inl ⟨by omega, .inr hh⟩))
  · rw [if_neg e] at hh
    exact h (.inr (.inr (.inr ⟨by omega, hh⟩)))
/-- a knot that is not due is as it was. -/
theorem GrK.keep (G : GrK A V sz k P V' sz') (I0 : IsI S0 A.g V gv) (I1 : IsI S A.g V' gv) {i : Nat} (hi : S.V i) (hnd : ∀ j, j ∈ cls S.E S.M i → ¬ gDue S0 k (sz k) P.V.n (A.g.ins (V.sm A.g k)) j) :
    cls S0.E S0.M (sgU k (sz k) P.V.n i) = (cls S.E S.M i).map (sgU k (sz k) P.V.n) ∧ (Trc S.E i i ↔ Trc S0.E (sgU k (sz k) P.V.n i) (sgU k (sz k) P.V.n i)) ∧ S0.V (sgU k (sz k) P.V.n i) := by
  obtain ⟨m1, m2, m3, m4⟩ := G.m1
  have isC : ∀ j, j ∈ cls S.E S.M i → V'.is A.g j := fun j hj => (I1.vv j).1 (S.cls_V hi hj)
  have kt : ∀ j, j ∈ cls S.E S.M i → ktU A V k P.V.n j := fun j hj => ⟨(due_kt (hnd j hj)).1, (due_kt (hnd j hj)).2.1⟩
  have iC := S.cls_self hi
  have isI := isC i iC
  have hV0 : S0.V (sgU k (sz k) P.V.n i) := (I0.vv _).2 (G.vis isI (kt i iC).1)
  -- paths go over
  have fw : ∀ a b, b ∈ cls S.E S.M i → Rch S.E a b → a ∈ cls S.E S.M i → Rch S0.E (sgU k (sz k) P.V.n a) (sgU k (sz k) P.V.n b) := by
    intro a b hb h
    refine Rch.ind (P := fun a => a ∈ cls S.E S.M i → Rch S0.E (sgU k (sz k) P.V.n a) (sgU k (sz k) P.V.n b)) (fun _ => Rch.refl _) ?_ h
    intro a c e r ih ha
    have hc : c ∈ cls S.E S.M i := by
      refine mem_cls.2 ⟨S.hV c (S.hE a c e).2, ?_, r.trans (mem_cls.1 hb).2.2⟩
      exact (mem_cls.1 ha).2.1.trans (Rch.one e)
    refine Rch.head ?_ (ih hc)
    rw [I1.ee] at e
    rw [I0.ee]
    exact (G.edF (isC a ha) (kt a ha) e).2
  -- and back
  obtain ⟨ρ, hρ⟩ : ∃ ρ : Nat → Nat, ρ = fun c => 8 * rnU k (sz k) P.V.n (c / 8) + c % 8 := ⟨_, rfl⟩
  have rh : ∀ c, V.is A.g c → (c / 8 < k ∨ k + sz k ≤ c / 8) → V'.is A.g (ρ c) ∧ ktU A V k P.V.n (ρ c) ∧ sgU k (sz k) P.V.n (ρ c) = c := by
    intro c hc hn
    have st : stU k (sz k) (c / 8) := by rcases hn with h | h; exact .inl (by omega); exact .inr h
    obtain ⟨s1, s2, s3⟩ := sg_rn (m := P.V.n) (a := c % 8) m1 m2 st (by omega)
    have ed : ρ c = 8 * rnU k (sz k) P.V.n (c / 8) + c % 8 := by rw [hρ]
    have d1 : (8 * rnU k (sz k) P.V.n (c / 8) + c % 8) / 8 = rnU k (sz k) P.V.n (c / 8) := by omega
    have d2 : (8 * rnU k (sz k) P.V.n (c / 8) + c % 8) % 8 = c % 8 := by omega
    refine ⟨?_, ⟨by rw [ed]; exact s2, fun hh => ?_⟩, by rw [ed, s1]; omega⟩
    · rw [ed]
      show _ / 8 < V'.n ∧ _ % 8 < A.g.cnt (V'.sm A.g (_ / 8))
      rw [d1, d2, G.sm st]
      refine ⟨?_, hc.2⟩
      have h1 := hc.1
      rcases hn with h | h
      · rw [rnU_le (by omega)]; omega
      · rw [rnU_gt (by omega)]; omega
    · rw [ed, d1] at hh
      have := s3.1 hh.1
      omega
  have bk : Trc S0.E (sgU k (sz k) P.V.n i) (sgU k (sz k) P.V.n i) → (∀ c, c ∈ cls S0.E S0.M (sgU k (sz k) P.V.n i) → V.is A.g c ∧ (c / 8 < k ∨ k + sz k ≤ c / 8)) ∧ ρ (sgU k (sz k) P.V.n i) = i := by
    intro ht
    have nt := (due_kt (hnd i iC)).2.2
    have key : ∀ c, c ∈ cls S0.E S0.M (sgU k (sz k) P.V.n i) → V.is A.g c ∧ (c / 8 < k ∨ k + sz k ≤ c / 8) := fun c hc => by
      refine ⟨(I0.vv c).1 (S0.cls_V hV0 hc), ?_⟩
      refine Classical.byContradiction (fun hh => nt ⟨hV0, ht, c, by omega, by omega, hc⟩)
    refine ⟨key, ?_⟩
    obtain ⟨a1, a2⟩ := key _ (S0.cls_self hV0)
    obtain ⟨b1, b2, b3⟩ := rh _ a1 a2
    exact sg_inj m2 b2.1 (kt i iC).1 b3
  have bw : Trc S0.E (sgU k (sz k) P.V.n i) (sgU k (sz k) P.V.n i) → ∀ c d, c ∈ cls S0.E S0.M (sgU k (sz k) P.V.n i) → d ∈ cls S0.E S0.M (sgU k (sz k) P.V.n i) → S0.E c d → S.E (ρ c) (ρ d) := by
    intro ht c d hc hd e
    obtain ⟨key, _⟩ := bk ht
    obtain ⟨a1, a2⟩ := key c hc
    obtain ⟨b1, b2, b3⟩ := rh c a1 a2
    obtain ⟨a1', a2'⟩ := key d hd
    obtain ⟨b1', b2', b3'⟩ := rh d a1' a2'
    rw [I0.ee] at e
    rw [← b3] at e
    obtain ⟨y, y1, y2, y3⟩ := G.edB b1 b2 e
    have ey : y = ρ d := sg_inj m2 y2 b2'.1 (y3.trans b3'.symm)
    rw [I1.ee, ← ey]
    exact y1
  have bwR : Trc S0.E (sgU k (sz k) P.V.n i) (sgU k (sz k) P.V.n i) → ∀ c d, d ∈ cls S0.E S0.M (sgU k (sz k) P.V.n i) → Rch S0.E c d → c ∈ cls S0.E S0.M (sgU k (sz k) P.V.n i) → Rch S.E (ρ c) (ρ d) := by
    intro ht c d hd h
    refine Rch.ind (P := fun c => c ∈ cls S0.E S0.M (sgU k (sz k) P.V.n i) → Rch S.E (ρ c) (ρ d)) (fun _ => Rch.refl _) ?_ h
    intro a c e r ih ha
    have hc : c ∈ cls S0.E S0.M (sgU k (sz k) P.V.n i) := by
      refine mem_cls.2 ⟨S0.hV c (S0.hE a c e).2, ?_, r.trans (mem_cls.1 hd).2.2⟩
      exact (mem_cls.1 ha).2.1.trans (Rch.one e)
    exact Rch.head (bw ht a c ha hc e) (ih hc)
  refine ⟨?_, ⟨fun ht => ?_, fun ht => ?_⟩, hV0⟩
  · refine srt_ext _ _ (cls_srt _ _ _) ?_ (fun x => ⟨fun hx => ?_, fun hx => ?_⟩)
    · refine List.pairwise_map.2 (List.Pairwise.imp_of_mem ?_ (cls_srt S.E S.M i))
      intro a b ha hb hab
      exact sg_mono m2 (kt a ha).1 (kt b hb).1 hab
    · by_cases e : x = sgU k (sz k) P.V.n i
      · rw [e]; exact List.mem_map.2 ⟨i, iC, rfl⟩
      · have hx' := mem_cls.1 hx
        have ht : Trc S0.E (sgU k (sz k) P.V.n i) (sgU k (sz k) P.V.n i) := by
          rcases hx'.2.1.cas with e' | ⟨c, e1, e2⟩
          · exact absurd e'.symm e
          · exact ⟨c, e1, e2.trans hx'.2.2⟩
        obtain ⟨key, er⟩ := bk ht
        have sI := S0.cls_self hV0
        have r1 := bwR ht _ x hx hx'.2.1 sI
        have r2 := bwR ht x _ sI hx'.2.2 hx
        rw [er] at r1 r2
        obtain ⟨a1, a2⟩ := key x hx
        obtain ⟨b1, b2, b3⟩ := rh x a1 a2
        exact List.mem_map.2 ⟨ρ x, mem_cls.2 ⟨S.hV _ ((I1.vv _).2 b1), r1, r2⟩, b3⟩
    · obtain ⟨j, hj, e⟩ := List.mem_map.1 hx
      rw [← e]
      have hj' := mem_cls.1 hj
      refine mem_cls.2 ⟨S0.hV _ ((I0.vv _).2 (G.vis (isC j hj) (kt j hj).1)), fw i j hj hj'.2.1 iC, fw j i iC hj'.2.2 hj⟩
  · obtain ⟨c, e, r⟩ := ht
    have hc : c ∈ cls S.E S.M i := mem_cls.2 ⟨S.hV c (S.hE i c e).2, Rch.one e, r⟩
    refine ⟨sgU k (sz k) P.V.n c, ?_, fw c i iC r hc⟩
    rw [I1.ee] at e
    rw [I0.ee]
    exact (G.edF isI (kt i iC) e).2
  · obtain ⟨c, e, r⟩ := ht
    have ht : Trc S0.E (sgU k (sz k) P.V.n i) (sgU k (sz k) P.V.n i) := ⟨c, e, r⟩
    have hc : c ∈ cls S0.E S0.M (sgU k (sz k) P.V.n i) := mem_cls.2 ⟨S0.hV c (S0.hE _ c e).2, Rch.one e, r⟩
    have sI := S0.cls_self hV0
    obtain ⟨key, er⟩ := bk ht
    have b1 := bw ht _ c sI hc e
    have b2 := bwR ht c _ sI r hc
    rw [er] at b1 b2
    exact ⟨ρ c, b1, b2⟩
theorem GrK.stays (G : GrK A V sz k P V' sz') (I0 : IsI S0 A.g V gv) (I1 : IsI S A.g V' gv) {old : Vl} (hold : ∀ y, V'.is A.g y → ¬ gNew k P.V.n y → old y = S0.val (sgU k (sz k) P.V.n y)) {i : Nat} (hi : S.V i) (hnd : ∀ j, j ∈ cls S.E S.M i → ¬ gDue S0 k (sz k) P.V.n (A.g.ins (V.sm A.g k)) j)
    (hout : ∀ j y, j ∈ cls S.E S.M i → S.E j y → y ∉ cls S.E S.M i → ¬ gNew k P.V.n y ∧ S.val y = old y) :
    (∀ j, j ∈ cls S.E S.M i → S.val j = old j) ∧ (Trc S.E i i → S.tn i = S0.tn (sgU k (sz k) P.V.n i) ∧ S.us i = S0.us (sgU k (sz k) P.V.n i)) := by
  obtain ⟨m1, m2, m3, m4⟩ := G.m1
  obtain ⟨c1, c2, c3⟩ := G.keep I0 I1 hi hnd
  have isC : ∀ j, j ∈ cls S.E S.M i → V'.is A.g j := fun j hj => (I1.vv j).1 (S.cls_V hi hj)
  have kt : ∀ j, j ∈ cls S.E S.M i → ktU A V k P.V.n j := fun j hj => ⟨(due_kt (hnd j hj)).1, (due_kt (hnd j hj)).2.1⟩
  have nn : ∀ x, (x ∈ cls S.E S.M i ∨ ∃ j, j ∈ cls S.E S.M i ∧ S.E j x) → ¬ gNew k P.V.n x := fun x hx => by
    rcases hx with h | ⟨j, hj, e⟩
    · exact (kt x h).1
    · rw [I1.ee] at e
      exact (G.edF (isC j hj) (kt j hj) e).1
  have st := Ist.stays (S0 := S0) (S := S) (σ := sgU k (sz k) P.V.n) (i := i) hi c1 c2 c3 (fun x y hx hy e => sg_inj m2 (nn x hx) (nn y hy) e) (fun j hj w w' hw => by
    rw [I0.ff, I1.ff]
    refine G.mk (isC j hj) (kt j hj) (fun y hy => hw y ?_)
    rw [I1.ee]; exact hy) (fun j x hj hx hnx => by
    obtain ⟨h1, h2⟩ := hout j x hj hx hnx
    have hxV : V'.is A.g x := (I1.vv x).1 (S.hE j x hx).2
    rw [h2, hold x hxV h1])
  refine ⟨fun j hj => ?_, fun ht => ?_⟩
  · rw [hold j (isC j hj) (kt j hj).1]
    exact (st.1 j hj).symm
  · obtain ⟨e1, e2⟩ := st.2 ht
    exact ⟨e1.symm, e2.symm⟩
end
