/-! plain: gr1 -/
set_option maxRecDepth 100000
section
variable {A : PG} {V : Tv} {sz : Nat → Nat} {k : Nat} {P : PT}

/-- numbers of nodes that stay, when k with s nodes goes and m come. -/
def rnU (k s m i : Nat) : Nat := if i ≤ k then i else i + m - s
theorem rnU_le {k s m i : Nat} (h : i ≤ k) : rnU k s m i = i := if_pos h
theorem rnU_gt {k s m i : Nat} (h : k < i) : rnU k s m i = i + m - s := if_neg (by omega)
def stU (k s i : Nat) : Prop := i ≤ k ∨ k + s ≤ i
def Tv.spl (V : Tv) (sz : Nat → Nat) (k : Nat) (P : PT) : Tv :=
  Tv.mkT (V.n + P.V.n - sz k)
    (fun e => if e < k then V.pd e else if e < k + P.V.n then P.V.pd (e - k) else V.pd (e + sz k - P.V.n))
    (fun e => if e < k then V.nu e else if e < k + P.V.n then P.V.nu (e - k) else V.nu (e + sz k - P.V.n))
    (fun e => if e ≤ k then V.pa e else if e < k + P.V.n then (P.V.pa (e - k)).map (· + k) else (V.pa (e + sz k - P.V.n)).map (rnU k (sz k) P.V.n))
    (fun e => if e ≤ k then V.pl e else if e < k + P.V.n then P.V.pl (e - k) else V.pl (e + sz k - P.V.n))
    (fun e j => if e < k then rnU k (sz k) P.V.n (V.kd e j) else if e < k + P.V.n then P.V.kd (e - k) j + k else rnU k (sz k) P.V.n (V.kd (e + sz k - P.V.n) j))
    (fun e => if e < k then V.dp e else if e < k + P.V.n then P.V.dp (e - k) else V.dp (e + sz k - P.V.n))
def splZ (sz : Nat → Nat) (k : Nat) (P : PT) : Nat → Nat := fun e => if e < k then (if k < e + sz e then sz e + P.V.n - sz k else sz e) else if e < k + P.V.n then P.sz (e - k) else sz (e + sz k - P.V.n)

/-- what is known of a tree with another part. -/
def SpR (V : Tv) (sz : Nat → Nat) (k : Nat) (P : PT) (V' : Tv) (sz' : Nat → Nat) : Prop :=
  (V'.n + sz k = V.n + P.V.n) ∧
  (∀ i, stU k (sz k) i → i ≠ k → V'.pd (rnU k (sz k) P.V.n i) = V.pd i) ∧
  (∀ i, stU k (sz k) i → i ≠ k → V'.nu (rnU k (sz k) P.V.n i) = V.nu i) ∧
  (∀ i, stU k (sz k) i → V'.pl (rnU k (sz k) P.V.n i) = V.pl i) ∧
  (∀ i, i < k → V'.pa i = V.pa i) ∧
  (∀ i q, k + sz k ≤ i → V.pa i = some q → V'.pa (rnU k (sz k) P.V.n i) = some (rnU k (sz k) P.V.n q)) ∧
  (∀ i j, stU k (sz k) i → i ≠ k → V'.kd (rnU k (sz k) P.V.n i) j = rnU k (sz k) P.V.n (V.kd i j)) ∧
  (∀ i, stU k (sz k) i → i ≠ k → V'.dp (rnU k (sz k) P.V.n i) = V.dp i) ∧
  (∀ i, i < k → sz' i = if k < i + sz i then sz i + P.V.n - sz k else sz i) ∧
  (∀ i, k + sz k ≤ i → sz' (rnU k (sz k) P.V.n i) = sz i) ∧
  (∀ q, q < P.V.n → V'.pd (k + q) = P.V.pd q) ∧
  (∀ q, q < P.V.n → V'.nu (k + q) = P.V.nu q) ∧
  (V'.pa k = V.pa k) ∧
  (∀ q p, 0 < q → q < P.V.n → P.V.pa q = some p → V'.pa (k + q) = some (k + p)) ∧
  (∀ q, 0 < q → q < P.V.n → V'.pl (k + q) = P.V.pl q) ∧
  (∀ q j, q < P.V.n → V'.kd (k + q) j = k + P.V.kd q j) ∧
  (∀ q, q < P.V.n → V'.dp (k + q) = P.V.dp q) ∧
  (∀ q, q < P.V.n → sz' (k + q) = P.sz q)
theorem SpR.nn {V : Tv} {sz : Nat → Nat} {k : Nat} {P : PT} {V' : Tv} {sz' : Nat → Nat} (h9 : SpR V sz k P V' sz') : V'.n + sz k = V.n + P.V.n := h9.1
theorem SpR.pd {V : Tv} {sz : Nat → Nat} {k : Nat} {P : PT} {V' : Tv} {sz' : Nat → Nat} (h9 : SpR V sz k P V' sz') : ∀ i, stU k (sz k) i → i ≠ k → V'.pd (rnU k (sz k) P.V.n i) = V.pd i := h9.2.1
theorem SpR.nu {V : Tv} {sz : Nat → Nat} {k : Nat} {P : PT} {V' : Tv} {sz' : Nat → Nat} (h9 : SpR V sz k P V' sz') : ∀ i, stU k (sz k) i → i ≠ k → V'.nu (rnU k (sz k) P.V.n i) = V.nu i := h9.2.2.1
theorem SpR.pl {V : Tv} {sz : Nat → Nat} {k : Nat} {P : PT} {V' : Tv} {sz' : Nat → Nat} (h9 : SpR V sz k P V' sz') : ∀ i, stU k (sz k) i → V'.pl (rnU k (sz k) P.V.n i) = V.pl i := h9.2.2.2.1
theorem SpR.pa1 {V : Tv} {sz : Nat → Nat} {k : Nat} {P : PT} {V' : Tv} {sz' : Nat → Nat} (h9 : SpR V sz k P V' sz') : ∀ i, i < k → V'.pa i = V.pa i := h9.2.2.2.2.1
theorem SpR.pa2 {V : Tv} {sz : Nat → Nat} {k : Nat} {P : PT} {V' : Tv} {sz' : Nat → Nat} (h9 : SpR V sz k P V' sz') : ∀ i q, k + sz k ≤ i → V.pa i = some q → V'.pa (rnU k (sz k) P.V.n i) = some (rnU k (sz k) P.V.n q) := h9.2.2.2.2.2.1
theorem SpR.kd {V : Tv} {sz : Nat → Nat} {k : Nat} {P : PT} {V' : Tv} {sz' : Nat → Nat} (h9 : SpR V sz k P V' sz') : ∀ i j, stU k (sz k) i → i ≠ k → V'.kd (rnU k (sz k) P.V.n i) j = rnU k (sz k) P.V.n (V.kd i j) := h9.2.2.2.2.2.2.1
theorem SpR.dp {V : Tv} {sz : Nat → Nat} {k : Nat} {P : PT} {V' : Tv} {sz' : Nat → Nat} (h9 : SpR V sz k P V' sz') : ∀ i, stU k (sz k) i → i ≠ k → V'.dp (rnU k (sz k) P.V.n i) = V.dp i := h9.2.2.2.2.2.2.2.1
theorem SpR.s1 {V : Tv} {sz : Nat → Nat} {k : Nat} {P : PT} {V' : Tv} {sz' : Nat → Nat} (h9 : SpR V sz k P V' sz') : ∀ i, i < k → sz' i = if k < i + sz i then sz i + P.V.n - sz k else sz i := h9.2.2.2.2.2.2.2.2.1
theorem SpR.s2 {V : Tv} {sz : Nat → Nat} {k : Nat} {P : PT} {V' : Tv} {sz' : Nat → Nat} (h9 : SpR V sz k P V' sz') : ∀ i, k + sz k ≤ i → sz' (rnU k (sz k) P.V.n i) = sz i := h9.2.2.2.2.2.2.2.2.2.1
theorem SpR.pdP {V : Tv} {sz : Nat → Nat} {k : Nat} {P : PT} {V' : Tv} {sz' : Nat → Nat} (h9 : SpR V sz k P V' sz') : ∀ q, q < P.V.n → V'.pd (k + q) = P.V.pd q := h9.2.2.2.2.2.2.2.2.2.2.1
theorem SpR.nuP {V : Tv} {sz : Nat → Nat} {k : Nat} {P : PT} {V' : Tv} {sz' : Nat → Nat} (h9 : SpR V sz k P V' sz') : ∀ q, q < P.V.n → V'.nu (k + q) = P.V.nu q := h9.2.2.2.2.2.2.2.2.2.2.2.1
theorem SpR.paK {V : Tv} {sz : Nat → Nat} {k : Nat} {P : PT} {V' : Tv} {sz' : Nat → Nat} (h9 : SpR V sz k P V' sz') : V'.pa k = V.pa k := h9.2.2.2.2.2.2.2.2.2.2.2.2.1
theorem SpR.paP {V : Tv} {sz : Nat → Nat} {k : Nat} {P : PT} {V' : Tv} {sz' : Nat → Nat} (h9 : SpR V sz k P V' sz') : ∀ q p, 0 < q → q < P.V.n → P.V.pa q = some p → V'.pa (k + q) = some (k + p) := h9.2.2.2.2.2.2.2.2.2.2.2.2.2.1
theorem SpR.plP {V : Tv} {sz : Nat → Nat} {k : Nat} {P : PT} {V' : Tv} {sz' : Nat → Nat} (h9 : SpR V sz k P V' sz') : ∀ q, 0 < q → q < P.V.n → V'.pl (k + q) = P.V.pl q := h9.2.2.2.2.2.2.2.2.2.2.2.2.2.2.1
theorem SpR.kdP {V : Tv} {sz : Nat → Nat} {k : Nat} {P : PT} {V' : Tv} {sz' : Nat → Nat} (h9 : SpR V sz k P V' sz') : ∀ q j, q < P.V.n → V'.kd (k + q) j = k + P.V.kd q j := h9.2.2.2.2.2.2.2.2.2.2.2.2.2.2.2.1
theorem SpR.dpP {V : Tv} {sz : Nat → Nat} {k : Nat} {P : PT} {V' : Tv} {sz' : Nat → Nat} (h9 : SpR V sz k P V' sz') : ∀ q, q < P.V.n → V'.dp (k + q) = P.V.dp q := h9.2.2.2.2.2.2.2.2.2.2.2.2.2.2.2.2.1
theorem SpR.szP {V : Tv} {sz : Nat → Nat} {k : Nat} {P : PT} {V' : Tv} {sz' : Nat → Nat} (h9 : SpR V sz k P V' sz') : ∀ q, q < P.V.n → sz' (k + q) = P.sz q := h9.2.2.2.2.2.2.2.2.2.2.2.2.2.2.2.2.2
theorem spl_R (hs1 : 1 ≤ sz k) (hm : 1 ≤ P.V.n) (hkn : k + sz k ≤ V.n) : SpR V sz k P (V.spl sz k P) (splZ sz k P) := by
  have big : ∀ i, k + sz k ≤ i → rnU k (sz k) P.V.n i = i + P.V.n - sz k ∧ ¬ (i + P.V.n - sz k < k) ∧ ¬ (i + P.V.n - sz k ≤ k) ∧ ¬ (i + P.V.n - sz k < k + P.V.n) ∧ i + P.V.n - sz k + sz k - P.V.n = i := fun i hi => ⟨rnU_gt (by omega), by omega, by omega, by omega, by omega⟩
  have sub : ∀ q, k + q - k = q := fun q => by omega
  refine ⟨?_, fun i hs hk => ?_, fun i hs hk => ?_, fun i hs => ?_, fun i hi => ?_, fun i q h hp => ?_, fun i j hs hk => ?_, fun i hs hk => ?_, fun i hi => ?_, fun i hi => ?_, fun q hq => ?_, fun q hq => ?_, ?_, fun q p h0 hq hp => ?_, fun q h0 hq => ?_, fun q j hq => ?_, fun q hq => ?_, fun q hq => ?_⟩
  · show V.n + P.V.n - sz k + sz k = V.n + P.V.n
    omega
  · show (if _ < k then _ else _) = _
    rcases hs with h | h
    · rw [rnU_le h, if_pos (by omega)]
    · obtain ⟨b1, b2, b3, b4, b5⟩ := big i h
      rw [b1, if_neg b2, if_neg b4, b5]
  · show (if _ < k then _ else _) = _
    rcases hs with h | h
    · rw [rnU_le h, if_pos (by omega)]
    · obtain ⟨b1, b2, b3, b4, b5⟩ := big i h
      rw [b1, if_neg b2, if_neg b4, b5]
  · show (if _ ≤ k then _ else _) = _
    rcases hs with h | h
    · rw [rnU_le h, if_pos h]
    · obtain ⟨b1, b2, b3, b4, b5⟩ := big i h
      rw [b1, if_neg b3, if_neg b4, b5]
  · show (if _ ≤ k then _ else _) = _
    rw [if_pos (by omega)]
  · show (if _ ≤ k then _ else _) = _
    obtain ⟨b1, b2, b3, b4, b5⟩ := big i h
    rw [b1, if_neg b3, if_neg b4, b5, hp]; rfl
  · show (if _ < k then _ else _) = _
    rcases hs with h | h
    · rw [rnU_le h, if_pos (by omega)]
    · obtain ⟨b1, b2, b3, b4, b5⟩ := big i h
      rw [b1, if_neg b2, if_neg b4, b5]
  · show (if _ < k then _ else _) = _
    rcases hs with h | h
    · rw [rnU_le h, if_pos (by omega)]
    · obtain ⟨b1, b2, b3, b4, b5⟩ := big i h
      rw [b1, if_neg b2, if_neg b4, b5]
  · show (if _ < k then _ else _) = _
    rw [if_pos hi]
  · show (if _ < k then _ else _) = _
    obtain ⟨b1, b2, b3, b4, b5⟩ := big i hi
    rw [b1, if_neg b2, if_neg b4, b5]
  · show (if _ < k then _ else _) = _
    rw [if_neg (by omega), if_pos (by omega), sub]
  · show (if _ < k then _ else _) = _
    rw [if_neg (by omega), if_pos (by omega), sub]
  · show (if _ ≤ k then _ else _) = _
    rw [if_pos (Nat.le_refl _)]
  · show (if _ ≤ k then _ else _) = _
    rw [if_neg (by omega), if_pos (by omega), sub, hp]
    show some (p + k) = _
    rw [Nat.add_comm]
  · show (if _ ≤ k then _ else _) = _
    rw [if_neg (by omega), if_pos (by omega), sub]
  · show (if _ < k then _ else _) = _
    rw [if_neg (by omega), if_pos (by omega), sub, Nat.add_comm]
  · show (if _ < k then _ else _) = _
    rw [if_neg (by omega), if_pos (by omega), sub]
  · show (if _ < k then _ else _) = _
    rw [if_neg (by omega), if_pos (by omega), sub]

/-- parts of a tree are apart, or one in the other. -/
theorem trK.lam (K : trK A V sz) (hk : k < V.n) {e : Nat} (he : e < k) : e + sz e ≤ k ∨ k + sz k ≤ e + sz e := by
  rcases Nat.lt_or_ge k (e + sz e) with h | h
  · exact .inr (K.sub _ e k (Nat.lt_succ_self _) (by omega) he h).2
  · exact .inl h
theorem trK.kid (K : trK A V sz) {i j : Nat} (hi : i < V.n) (h1 : 1 ≤ j) (h2 : j ≤ A.g.kn (V.pd i)) : i < V.kd i j ∧ V.kd i j < i + sz i ∧ V.kd i j + sz (V.kd i j) ≤ i + sz i ∧ V.pa (V.kd i j) = some i ∧ V.pl (V.kd i j) = j ∧ A.g.sy (V.pd (V.kd i j)) 0 = A.g.sy (V.pd i) j ∧ V.dp (V.kd i j) = V.dp i + 1 ∧ V.kd i j < V.n := by
  have c := (K.nd i hi).c j h1 h2
  have hn : V.kd i j < V.n := (K.WF.kid i j hi h1 h2).1
  exact ⟨c.1.1, c.1.2, c.2.1, c.2.2.1, c.2.2.2.1, c.2.2.2.2.1, c.2.2.2.2.2, hn⟩
theorem trK.ends (K : trK A V sz) {i : Nat} (hi : i < V.n) : 1 ≤ sz i ∧ i + sz i ≤ V.n := ⟨(K.nd i hi).s1, (K.nd i hi).s2⟩
/-- children and parents of those that stay. -/
theorem trK.stK (K : trK A V sz) (hk : k < V.n) {i j : Nat} (hi : i < V.n) (hs : stU k (sz k) i) (hik : i ≠ k) (h1 : 1 ≤ j) (h2 : j ≤ A.g.kn (V.pd i)) : stU k (sz k) (V.kd i j) := by
  obtain ⟨c1, c2, c3, c4, _⟩ := K.kid hi h1 h2
  rcases Nat.lt_or_ge k (V.kd i j) with h | h
  · rcases Nat.lt_or_ge (V.kd i j) (k + sz k) with h' | h'
    · exfalso
      obtain ⟨⟨q, q1, q2⟩, _⟩ := K.sub _ k (V.kd i j) (Nat.lt_succ_self _) hk h h'
      have e : q = i := Option.some.inj (q1.symm.trans c4)
      subst e
      rcases hs with h3 | h3
      · exact hik (Nat.le_antisymm h3 q2)
      · omega
    · exact .inr h'
  · exact .inl h
theorem trK.stP (K : trK A V sz) (hk : k < V.n) {i q : Nat} (hi : i < V.n) (hs : stU k (sz k) i) (hp : V.pa i = some q) : stU k (sz k) q ∧ q ≠ k ∧ q < i := by
  have h0 : 0 < i := by
    rcases Nat.eq_zero_or_pos i with e | e
    · rw [e, K.r] at hp; exact absurd hp (by simp)
    · exact e
  obtain ⟨q', h1, _, h3, h4, h5, h6⟩ := K.pr i h0 hi
  have e : q' = q := Option.some.inj (h1.symm.trans hp)
  subst e
  have h6' : V.kd q' (V.pl i) = i := h6
  have h3' : q' < i := h3
  obtain ⟨c1, c2, c3, _⟩ := K.kid (i := q') (j := V.pl i) (by omega) h4 h5
  rw [h6'] at c2
  have e1 := K.ends (i := q') (by omega)
  have ek := K.ends hk
  rcases Nat.lt_trichotomy q' k with h | h | h
  · exact ⟨.inl (by omega), by omega, h3'⟩
  · exfalso
    rw [h] at c2
    rcases hs with h' | h' <;> omega
  · rcases Nat.lt_or_ge q' (k + sz k) with h' | h'
    · exfalso
      have := (K.sub _ k q' (Nat.lt_succ_self _) hk h h').2
      rcases hs with h9 | h9 <;> omega
    · exact ⟨.inr h', by omega, h3'⟩

theorem SpR.trK {V' : Tv} {sz' : Nat → Nat} (Z : SpR V sz k P V' sz') (K : trK A V sz) (KP : trK A P.V P.sz) (hk : k < V.n) (h40 : V'.n ≤ 40) (hsy : A.g.sy (P.V.pd 0) 0 = A.g.sy (V.pd k) 0) (hdp : P.V.dp 0 = V.dp k) : trK A V' sz' := by
  have ek := K.ends hk
  have m1 := KP.n1
  have s0 := KP.s0
  have nn := Z.nn
  have k0 : V'.pd k = P.V.pd 0 := Z.pdP 0 (by omega)
  have kS : sz' k = P.V.n := (Z.szP 0 (by omega)).trans s0
  have kD : V'.dp k = P.V.dp 0 := Z.dpP 0 (by omega)
  have rk : rnU k (sz k) P.V.n k = k := rnU_le (Nat.le_refl _)
  -- ends
  have en : ∀ i, i < V.n → stU k (sz k) i → rnU k (sz k) P.V.n i + sz' (rnU k (sz k) P.V.n i) = rnU k (sz k) P.V.n (i + sz i) ∧ stU k (sz k) (i + sz i) := by
    intro i hi hs
    have ei := K.ends hi
    rcases hs with h | h
    · rcases Nat.lt_or_eq_of_le h with h' | h'
      · rw [rnU_le h, Z.s1 i h']
        rcases K.lam hk h' with h2 | h2
        · rw [if_neg (by omega), rnU_le h2]; exact ⟨rfl, .inl h2⟩
        · rw [if_pos (by omega), rnU_gt (by omega)]; exact ⟨by omega, .inr h2⟩
      · rw [h', rk, kS, rnU_gt (by omega)]; exact ⟨by omega, .inr (Nat.le_refl _)⟩
    · rw [Z.s2 i h, rnU_gt (by omega), rnU_gt (by omega)]; exact ⟨by omega, .inr (by omega)⟩
  have mono : ∀ i j, stU k (sz k) i → stU k (sz k) j → i < j → rnU k (sz k) P.V.n i < rnU k (sz k) P.V.n j := by
    intro i j hi hj h
    unfold rnU
    rcases hi with h1 | h1 <;> rcases hj with h2 | h2
    · rw [if_pos h1, if_pos h2]; exact h
    · rw [if_pos h1, if_neg (by omega)]; omega
    · omega
    · rw [if_neg (by omega), if_neg (by omega)]; omega
  have monl : ∀ i j, stU k (sz k) i → stU k (sz k) j → i ≤ j → rnU k (sz k) P.V.n i ≤ rnU k (sz k) P.V.n j := by
    intro i j hi hj h
    rcases Nat.lt_or_eq_of_le h with h' | h'
    · exact Nat.le_of_lt (mono i j hi hj h')
    · rw [h']; exact Nat.le_refl _
  have syE : ∀ i, stU k (sz k) i → A.g.sy (V'.pd (rnU k (sz k) P.V.n i)) 0 = A.g.sy (V.pd i) 0 := by
    intro i hi
    by_cases e : i = k
    · rw [e, rk, k0, hsy]
    · rw [Z.pd i hi e]
  have dpE : ∀ i, stU k (sz k) i → V'.dp (rnU k (sz k) P.V.n i) = V.dp i := by
    intro i hi
    by_cases e : i = k
    · rw [e, rk, kD, hdp]
    · exact Z.dp i hi e
  have paE : ∀ i q, i < V.n → stU k (sz k) i → V.pa i = some q → V'.pa (rnU k (sz k) P.V.n i) = some (rnU k (sz k) P.V.n q) := by
    intro i q hi hs hp
    obtain ⟨p1, p2, p3⟩ := K.stP hk hi hs hp
    by_cases e : i = k
    · rw [e, rk, Z.paK, ← e, hp, rnU_le (by omega)]
    · rcases hs with h | h
      · rw [rnU_le (by omega), Z.pa1 i (by omega), hp, rnU_le (by omega)]
      · exact Z.pa2 i q h hp
  -- all nodes
  have all : ∀ e, e < V'.n → (∃ i, i < V.n ∧ stU k (sz k) i ∧ i ≠ k ∧ e = rnU k (sz k) P.V.n i) ∨ ∃ q, q < P.V.n ∧ e = k + q := by
    intro e he
    rcases Nat.lt_or_ge e k with h | h
    · exact .inl ⟨e, by omega, .inl (by omega), by omega, (rnU_le (by omega)).symm⟩
    · rcases Nat.lt_or_ge e (k + P.V.n) with h' | h'
      · exact .inr ⟨e - k, by omega, by omega⟩
      · exact .inl ⟨e + sz k - P.V.n, by omega, .inr (by omega), by omega, by rw [rnU_gt (by omega)]; omega⟩
  refine ⟨by omega, h40, ?_, ?_, fun e he => ?_, fun e h0 he => ?_⟩
  · rcases Nat.eq_zero_or_pos k with h | h
    · have := Z.paK; rw [h] at this; rw [this]; exact K.r
    · rw [Z.pa1 0 h]; exact K.r
  · rcases Nat.eq_zero_or_pos k with h | h
    · have e1 := K.s0
      rw [h] at kS
      have e2 : sz k = V.n := by rw [h]; exact e1
      rw [kS]; omega
    · rw [Z.s1 0 h, K.s0, if_pos (by omega)]; omega
  · rcases all e he with ⟨i, hi, hs, hik, rfl⟩ | ⟨q, hq, rfl⟩
    · have N := K.nd i hi
      have ei := K.ends hi
      obtain ⟨en1, en2⟩ := en i hi hs
      have hkn : V'.pd (rnU k (sz k) P.V.n i) = V.pd i := Z.pd i hs hik
      have hend : rnU k (sz k) P.V.n (i + sz i) ≤ V'.n := by
        have : rnU k (sz k) P.V.n V.n = V'.n := by rw [rnU_gt (by omega)]; omega
        rw [← this]
        exact monl _ _ en2 (.inr ek.2) ei.2
      have kidS := fun j h1 h2 => K.stK (j := j) hk hi hs hik h1 h2
      have kidE : ∀ j, V'.kd (rnU k (sz k) P.V.n i) j = rnU k (sz k) P.V.n (V.kd i j) := fun j => Z.kd i j hs hik
      refine ⟨?_, ?_, ?_, ?_, ?_, fun j h1 h2 => ?_, fun h1 => ?_, fun j h1 h2 => ?_, ?_⟩
      · show A.g.nP > V'.pd _
        rw [hkn]; exact N.pd
      · show 1 ≤ sz' _
        have := mono i (i + sz i) hs en2 (by omega)
        omega
      · show _ + sz' _ ≤ _
        rw [en1]; exact hend
      · show V'.dp _ < 12
        rw [Z.dp i hs hik]; exact N.d
      · show ∃ x, x < 10000 ∧ V'.nu _ = I x
        rw [Z.nu i hs hik]; exact N.u
      · have h2' : j ≤ A.g.kn (V.pd i) := by rw [← hkn]; exact h2
        obtain ⟨c1, c2, c3, c4, c5, c6, c7, c8⟩ := K.kid hi h1 h2'
        have ks := kidS j h1 h2'
        obtain ⟨f1, f2⟩ := en _ c8 ks
        show (_ < V'.kd _ j ∧ V'.kd _ j < _ + sz' _) ∧ V'.kd _ j + sz' (V'.kd _ j) ≤ _ + sz' _ ∧ V'.pa (V'.kd _ j) = some _ ∧ V'.pl (V'.kd _ j) = j ∧ A.g.sy (V'.pd (V'.kd _ j)) 0 = A.g.sy (V'.pd _) j ∧ V'.dp (V'.kd _ j) = V'.dp _ + 1
        rw [kidE j, en1, f1, hkn, dpE _ ks, dpE i hs, syE _ ks, Z.pl _ ks]
        exact ⟨⟨mono _ _ hs ks c1, mono _ _ ks en2 c2⟩, monl _ _ f2 en2 c3, paE _ _ c8 ks c4, c5, c6, c7⟩
      · have h1' : 1 ≤ A.g.kn (V.pd i) := by rw [← hkn]; exact h1
        show V'.kd _ 1 = _
        have c1 : V.kd i 1 = i + 1 := N.c1 h1'
        have ks := kidS 1 (Nat.le_refl _) h1'
        rw [kidE 1, c1]
        rw [c1] at ks
        unfold rnU
        rcases hs with h | h <;> rcases ks with h' | h'
        · rw [if_pos h', if_pos h]
        · omega
        · omega
        · rw [if_neg (by omega), if_neg (by omega)]; omega
      · have h2' : j < A.g.kn (V.pd i) := by rw [← hkn]; exact h2
        show V'.kd _ (j + 1) = V'.kd _ j + sz' (V'.kd _ j)
        have c2 : V.kd i (j + 1) = V.kd i j + sz (V.kd i j) := N.c2 j h1 h2'
        have c8 := (K.kid hi h1 (Nat.le_of_lt h2')).2.2.2.2.2.2.2
        rw [kidE, kidE, (en _ c8 (kidS j h1 (Nat.le_of_lt h2'))).1, c2]
      · show _ + sz' _ = if A.g.kn (V'.pd _) = 0 then _ else V'.kd _ (A.g.kn (V'.pd _)) + sz' (V'.kd _ (A.g.kn (V'.pd _)))
        have c3 : i + sz i = if A.g.kn (V.pd i) = 0 then i + 1 else V.kd i (A.g.kn (V.pd i)) + sz (V.kd i (A.g.kn (V.pd i))) := N.c3
        rw [hkn, en1]
        by_cases hz : A.g.kn (V.pd i) = 0
        · rw [if_pos hz] at c3 ⊢
          rw [c3]
          rw [c3] at en2
          unfold rnU
          rcases hs with h | h <;> rcases en2 with h' | h'
          · rw [if_pos h', if_pos h]
          · omega
          · omega
          · rw [if_neg (by omega), if_neg (by omega)]; omega
        · rw [if_neg hz] at c3 ⊢
          have c8 := (K.kid hi (show 1 ≤ A.g.kn (V.pd i) by omega) (Nat.le_refl _)).2.2.2.2.2.2.2
          rw [kidE, (en _ c8 (kidS _ (by omega) (Nat.le_refl _))).1, c3]
    · have N := KP.nd q hq
      have eq := KP.ends hq
      have hpd : V'.pd (k + q) = P.V.pd q := Z.pdP q hq
      have hkl : ∀ j, 1 ≤ j → j ≤ A.g.kn (P.V.pd q) → P.V.kd q j < P.V.n ∧ 0 < P.V.kd q j := fun j h1 h2 => by
        have c := KP.kid hq h1 h2
        exact ⟨c.2.2.2.2.2.2.2, by have := c.1; omega⟩
      refine ⟨?_, ?_, ?_, ?_, ?_, fun j h1 h2 => ?_, fun h1 => ?_, fun j h1 h2 => ?_, ?_⟩
      · show A.g.nP > V'.pd _
        rw [hpd]; exact N.pd
      · show 1 ≤ sz' _
        rw [Z.szP q hq]; exact N.s1
      · show _ + sz' _ ≤ _
        rw [Z.szP q hq]; omega
      · show V'.dp _ < 12
        rw [Z.dpP q hq]; exact N.d
      · show ∃ x, x < 10000 ∧ V'.nu _ = I x
        rw [Z.nuP q hq]; exact N.u
      · have h2' : j ≤ A.g.kn (P.V.pd q) := by rw [← hpd]; exact h2
        obtain ⟨c1, c2, c3, c4, c5, c6, c7, c8⟩ := KP.kid hq h1 h2'
        obtain ⟨l1, l2⟩ := hkl j h1 h2'
        show (_ < V'.kd _ j ∧ V'.kd _ j < _ + sz' _) ∧ V'.kd _ j + sz' (V'.kd _ j) ≤ _ + sz' _ ∧ V'.pa (V'.kd _ j) = some _ ∧ V'.pl (V'.kd _ j) = j ∧ A.g.sy (V'.pd (V'.kd _ j)) 0 = A.g.sy (V'.pd _) j ∧ V'.dp (V'.kd _ j) = V'.dp _ + 1
        rw [Z.kdP q j hq, Z.szP q hq, Z.szP _ l1, hpd, Z.pdP _ l1, Z.dpP _ l1, Z.dpP q hq, Z.plP _ l2 l1]
        exact ⟨⟨by omega, by omega⟩, by omega, Z.paP _ q l2 l1 c4, c5, c6, c7⟩
      · have h1' : 1 ≤ A.g.kn (P.V.pd q) := by rw [← hpd]; exact h1
        show V'.kd _ 1 = _
        have c1 : P.V.kd q 1 = q + 1 := N.c1 h1'
        rw [Z.kdP q 1 hq, c1]; omega
      · have h2' : j < A.g.kn (P.V.pd q) := by rw [← hpd]; exact h2
        show V'.kd _ (j + 1) = V'.kd _ j + sz' (V'.kd _ j)
        have c2 : P.V.kd q (j + 1) = P.V.kd q j + P.sz (P.V.kd q j) := N.c2 j h1 h2'
        rw [Z.kdP q _ hq, Z.kdP q _ hq, Z.szP _ (hkl j h1 (Nat.le_of_lt h2')).1, c2]; omega
      · show _ + sz' _ = if A.g.kn (V'.pd _) = 0 then _ else V'.kd _ (A.g.kn (V'.pd _)) + sz' (V'.kd _ (A.g.kn (V'.pd _)))
        have c3 : q + P.sz q = if A.g.kn (P.V.pd q) = 0 then q + 1 else P.V.kd q (A.g.kn (P.V.pd q)) + P.sz (P.V.kd q (A.g.kn (P.V.pd q))) := N.c3
        rw [hpd, Z.szP q hq]
        by_cases hz : A.g.kn (P.V.pd q) = 0
        · rw [if_pos hz] at c3 ⊢; omega
        · rw [if_neg hz] at c3 ⊢
          rw [Z.kdP q _ hq, Z.szP _ (hkl _ (by omega) (Nat.le_refl _)).1]; omega
  · rcases all e he with ⟨i, hi, hs, hik, rfl⟩ | ⟨q, hq, rfl⟩
    · have hi0 : 0 < i := by
        rcases Nat.eq_zero_or_pos i with e | e
        · rw [e, rnU_le (by omega)] at h0; exact absurd h0 (by omega)
        · exact e
      obtain ⟨q, h1, _, h3, h4, h5, h6⟩ := K.pr i hi0 hi
      have h1' : V.pa i = some q := h1
      have h6' : V.kd q (V.pl i) = i := h6
      obtain ⟨p1, p2, p3⟩ := K.stP hk hi hs h1'
      refine ⟨rnU k (sz k) P.V.n q, paE i q hi hs h1', Nat.zero_le _, mono q i p1 hs p3, ?_, ?_, ?_⟩
      · show 1 ≤ V'.pl _
        rw [Z.pl i hs]; exact h4
      · show V'.pl _ ≤ A.g.kn (V'.pd _)
        rw [Z.pl i hs, Z.pd q p1 p2]; exact h5
      · show V'.kd _ (V'.pl _) = _
        rw [Z.pl i hs, Z.kd q _ p1 p2, h6']
    · by_cases hq0 : q = 0
      · subst hq0
        rw [Nat.add_zero] at h0 ⊢
        obtain ⟨p, h1, _, h3, h4, h5, h6⟩ := K.pr k h0 hk
        have h1' : V.pa k = some p := h1
        have h6' : V.kd p (V.pl k) = k := h6
        have hs : stU k (sz k) k := .inl (Nat.le_refl _)
        obtain ⟨p1, p2, p3⟩ := K.stP hk hk hs h1'
        have rp : rnU k (sz k) P.V.n p = p := rnU_le (by omega)
        have plk : V'.pl k = V.pl k := by have := Z.pl k hs; rw [rk] at this; exact this
        have pdp : V'.pd p = V.pd p := by have := Z.pd p p1 p2; rw [rp] at this; exact this
        have kdp : V'.kd p (V.pl k) = k := by have := Z.kd p (V.pl k) p1 p2; rw [rp, h6', rk] at this; exact this
        refine ⟨p, Z.paK.trans h1', Nat.zero_le _, p3, ?_, ?_, ?_⟩
        · show 1 ≤ V'.pl k
          rw [plk]; exact h4
        · show V'.pl k ≤ A.g.kn (V'.pd p)
          rw [plk, pdp]; exact h5
        · show V'.kd p (V'.pl k) = k
          rw [plk, kdp]
      · obtain ⟨p, h1, _, h3, h4, h5, h6⟩ := KP.pr q (by omega) hq
        have h6' : P.V.kd p (P.V.pl q) = q := h6
        have h3' : p < q := h3
        refine ⟨k + p, Z.paP q p (by omega) hq h1, Nat.zero_le _, by omega, ?_, ?_, ?_⟩
        · show 1 ≤ V'.pl _
          rw [Z.plP q (by omega) hq]; exact h4
        · show V'.pl _ ≤ A.g.kn (V'.pd _)
          rw [Z.plP q (by omega) hq, Z.pdP p (by omega)]; exact h5
        · show V'.kd _ (V'.pl _) = _
          rw [Z.plP q (by omega) hq, Z.kdP p _ (by omega), h6']
end
