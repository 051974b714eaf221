/-! plain: vl -/
set_option maxRecDepth 100000
section
variable {h : AH} {o jn tpa : Nat} {X : AX} {x y z u : Int32} {L : GA} {A : PG} {g : Nat} {ind : Nat → Int32} {Q : Int32 → AH → Prop} {V : Tv} {sz : Nat → Nat} {gv : Nat → Int32}
variable {D : TA}

theorem trK.dpl (K : trK A V sz) {k : Nat} (hk : k < V.n) : ∀ (m j : Nat), j ≤ m → k < j → j < k + sz k → V.dp k < V.dp j
  | 0, j, h1, h2, _ => by omega
  | m + 1, j, h1, h2, h3 => by
    have s2 : k + sz k ≤ V.n := (K.nd k hk).s2
    obtain ⟨⟨q, hq, hqk⟩, _⟩ := K.sub _ k j (Nat.lt_succ_self _) hk h2 h3
    obtain ⟨d1, d2⟩ := K.dpa (by omega) hq
    by_cases e : q = k
    · rw [e] at d2; omega
    · have := trK.dpl K hk m q (by omega) (by omega) (by omega)
      omega
theorem trK.dpe (K : trK A V sz) {k : Nat} (hk : k < V.n) (he : k + sz k < V.n) : V.dp (k + sz k) ≤ V.dp k := by
  obtain ⟨q, hq, hqk⟩ := K.beh hk he
  obtain ⟨d1, d2⟩ := K.dpa he hq
  obtain ⟨q', h1, _, h3, h4, h5, h6⟩ := K.pr (k + sz k) (by have := (K.nd k hk).s1; have e : (1 : Nat) ≤ sz k := this; omega) he
  have e : q' = q := Option.some.inj (h1.symm.trans hq)
  subst e
  have c := (K.nd q' (by omega)).c _ h4 h5
  have h6' : V.kd q' (V.pl (k + sz k)) = k + sz k := h6
  have c1 : V.kd q' (V.pl (k + sz k)) < q' + sz q' := c.1.2
  rw [h6'] at c1
  have := trK.dpl K (k := q') (by omega) k k (Nat.le_refl _) hqk (by have e : (1 : Nat) ≤ sz k := (K.nd k hk).s1; omega)
  omega

/-- a walk over a part of the tree. -/
def It2 (c : HC) (D : TA) (a q k j : Nat) : Prop :=
  ((c.kd a).1 = 20) ∧
  (a < c.sz) ∧
  (c.fr 2001 a = some q) ∧
  (c.fi 2000 a = I j) ∧
  ((c.kd q).1 = 19) ∧
  (q < c.sz) ∧
  (c.fr 1901 q = some D.t) ∧
  (c.fr 1900 q = some (D.r k))
theorem It2.k {c : HC} {D : TA} {a q k j : Nat} (h9 : It2 c D a q k j) : (c.kd a).1 = 20 := h9.1
theorem It2.l {c : HC} {D : TA} {a q k j : Nat} (h9 : It2 c D a q k j) : a < c.sz := h9.2.1
theorem It2.f1 {c : HC} {D : TA} {a q k j : Nat} (h9 : It2 c D a q k j) : c.fr 2001 a = some q := h9.2.2.1
theorem It2.f0 {c : HC} {D : TA} {a q k j : Nat} (h9 : It2 c D a q k j) : c.fi 2000 a = I j := h9.2.2.2.1
theorem It2.qk {c : HC} {D : TA} {a q k j : Nat} (h9 : It2 c D a q k j) : (c.kd q).1 = 19 := h9.2.2.2.2.1
theorem It2.ql {c : HC} {D : TA} {a q k j : Nat} (h9 : It2 c D a q k j) : q < c.sz := h9.2.2.2.2.2.1
theorem It2.q1 {c : HC} {D : TA} {a q k j : Nat} (h9 : It2 c D a q k j) : c.fr 1901 q = some D.t := h9.2.2.2.2.2.2.1
theorem It2.q0 {c : HC} {D : TA} {a q k j : Nat} (h9 : It2 c D a q k j) : c.fr 1900 q = some (D.r k) := h9.2.2.2.2.2.2.2
theorem It2.keep {W : Nat → Nat → Prop} {c c' : HC} {a q k j : Nat} (T : It2 c D a q k j) (F : Fr W c c') (h1 : ¬ W 2001 a) (h2 : ¬ W 2000 a) (h3 : ¬ W 1901 q) (h4 : ¬ W 1900 q) : It2 c' D a q k j :=
  ⟨by rw [F.kd _ T.l]; exact T.k, Nat.lt_of_lt_of_le T.l F.sz, by rw [F.fr _ _ T.l h1]; exact T.f1, by rw [F.fi _ _ T.l h2]; exact T.f0, by rw [F.kd _ T.ql]; exact T.qk, Nat.lt_of_lt_of_le T.ql F.sz, by rw [F.fr _ _ T.ql h3]; exact T.q1, by rw [F.fr _ _ T.ql h4]; exact T.q0⟩
theorem pc_hasNext2 {a q k j : Nat} (K : trK A V sz) (R : TrR h.c L D A.g V o) (T : It2 h.c D a q k j) (hk : k < V.n) (h1 : k ≤ j) (h2 : j ≤ k + sz k) (hQ : Q (if j = k + sz k then 0 else 1) h) : wp_X20_hasNext a h Q := by
  have h40 := K.n40
  have s1 : 1 ≤ sz k := (K.nd k hk).s1
  have s2 : k + sz k ≤ V.n := (K.nd k hk).s2
  have f1 : h.fr 2001 a = some q := T.f1
  have f0 : h.fi 2000 a = I j := T.f0
  have q1 : h.fr 1901 q = some D.t := T.q1
  have q0 : h.fr 1900 q = some (D.r k) := T.q0
  have e6 : h.fr 1602 D.t = some D.rl := R.rw_
  unfold wp_X20_hasNext
  rw [f1, adr_some, q1, adr_some, e6, adr_some, f0]
  refine ⟨nn_of rfl T.k, nn_of rfl T.qk, nn_of rfl R.tk, nn_of rfl R.rl.k, pc_size (h := h.srm 0 0) R.rl (pu ?_)⟩
  by_cases hj : V.n ≤ j
  · rw [if_pos (show j = k + sz k by omega)] at hQ
    exact brT ((I_le (by omega) (by omega)).2 hj) hQ
  refine brF (fun hh => hj ((I_le (by omega) (by omega)).1 hh)) ⟨nn_of rfl T.k, ?_⟩
  have N := R.nd k hk
  have hjn : j < V.n := by omega
  have Nj := R.nd j hjn
  have ek : h.fi 1502 (D.r k) = I k := N.ix
  have dk : h.fi 1503 (D.r k) = I (V.dp k) := N.dp
  have dj : h.fi 1503 (D.r j) = I (V.dp j) := Nj.dp
  rw [f1, adr_some, q0, adr_some, f0, ek, q1, adr_some, e6, adr_some]
  refine ⟨nn_of rfl T.qk, nn_of rfl N.k, ?_⟩
  have d12 : V.dp k < 12 := (K.nd k hk).d
  have d12' : V.dp j < 12 := (K.nd j hjn).d
  by_cases ej : j = k
  · rw [if_neg (by omega)] at hQ
    exact brT (by rw [ej]) hQ
  refine brF (fun hh => ej ((I_eq (by omega) (by omega)).1 hh)) ⟨nn_of rfl R.tk, nn_of rfl R.rl.k, pc_get (h := h.srm 0 0) R.rl hjn (pu ⟨.inr (nn_of rfl Nj.k), nn_of rfl Nj.k, nn_of rfl T.k, ?_⟩)⟩
  rw [f1, adr_some, q0, adr_some, adr_some, dj, dk]
  refine ⟨nn_of rfl T.qk, nn_of rfl N.k, ?_⟩
  intro m hm
  by_cases e : j = k + sz k
  · subst e
    have := K.dpe hk hjn
    rw [if_pos ((I_le (by omega) (by omega)).2 this)] at hm
    rw [if_pos rfl] at hQ
    rw [hm]; exact ⟨.inl rfl, hQ⟩
  · have := K.dpl hk j j (Nat.le_refl _) (by omega) (by omega)
    rw [if_neg (fun hh => by have := (I_le (by omega) (by omega)).1 hh; omega)] at hm
    rw [if_neg e] at hQ
    rw [hm]; exact ⟨.inr rfl, hQ⟩
/-- what a step of the walk writes. -/
def WI2 (a : Nat) : Nat → Nat → Prop := fun f b => f = 2000 ∧ b = a
theorem pc_next2 {a q k j : Nat} (K : trK A V sz) (R : TrR h.c L D A.g V o) (T : It2 h.c D a q k j) (hk : k < V.n) (h1 : k ≤ j) (h2 : j < k + sz k) {Q : Option Nat → AH → Prop}
    (hQ : ∀ h', Fr (WI2 a) h.c h'.c → It2 h'.c D a q k (j + 1) → h'.rc = h.rc → h'.rs = h.rs → h'.sz = h.sz → Q (some (D.r j)) h') : wp_X20_next a h Q := by
  have h40 := K.n40
  have s2 : k + sz k ≤ V.n := (K.nd k hk).s2
  have f1 : h.fr 2001 a = some q := T.f1
  have f0 : h.fi 2000 a = I j := T.f0
  have q1 : h.fr 1901 q = some D.t := T.q1
  have e6 : h.fr 1602 D.t = some D.rl := R.rw_
  unfold wp_X20_next
  refine ⟨nn_of rfl T.k, 0, 0, ⟨Nat.zero_le _, Nat.zero_le _⟩, ?_⟩
  dsimp only
  unfold wp_X20_next_2
  refine ⟨nn_of rfl T.k, pc_hasNext2 (h := (h.srm 0 0).srm 0 0) K R T hk h1 (by omega) (pu ?_)⟩
  rw [if_neg (by omega)]
  refine brF (by decide) ⟨nn_of rfl T.k, ?_⟩
  intro h7 e7
  have f0' : (h.srm 0 0).fi 2000 a = I j := f0
  rw [f0', show I j + 1 = I (j + 1) from I_add j 1] at e7
  have F7 : Fr (WI2 a) h.c h7.c := by rw [e7]; exact (Fr.refl h.c).sfi (h := h.srm 0 0) _ (fun _ => ⟨rfl, rfl⟩)
  have R7 : TrR h7.c L D A.g V o := R.keep F7 (fun f b hf hh => by have := hh.1; omega) (fun hh => absurd hh.1 (by decide)) (fun hh => absurd hh.1 (by decide)) (fun hh => absurd hh.1 (by decide)) (fun _ _ hh => absurd hh.1 (by decide))
  have T7 : It2 h7.c D a q k (j + 1) := by
    refine ⟨by rw [F7.kd _ T.l]; exact T.k, Nat.lt_of_lt_of_le T.l F7.sz, by rw [F7.fr _ _ T.l (fun hh => absurd hh.1 (by decide))]; exact T.f1, ?_, by rw [F7.kd _ T.ql]; exact T.qk, Nat.lt_of_lt_of_le T.ql F7.sz, by rw [F7.fr _ _ T.ql (fun hh => absurd hh.1 (by decide))]; exact T.q1, by rw [F7.fr _ _ T.ql (fun hh => absurd hh.1 (by decide))]; exact T.q0⟩
    rw [e7, pc_fi, sfi_same]
  have g1 : h7.fr 2001 a = some q := T7.f1
  have g0 : h7.fi 2000 a = I (j + 1) := T7.f0
  have p1 : h7.fr 1901 q = some D.t := T7.q1
  have p6 : h7.fr 1602 D.t = some D.rl := R7.rw_
  rw [g1, adr_some, p1, adr_some, p6, adr_some, g0, show I (j + 1) - 1 = I j from I_sub (a := j + 1) (b := 1) (by omega)]
  refine ⟨nn_of rfl T7.qk, nn_of rfl R7.tk, nn_of rfl R7.rl.k, pc_get (h := h7.srm 0 0) R7.rl (by omega) (pu ⟨.inr (nn_of rfl (R7.nd j (by omega)).k), ?_⟩)⟩
  intro h4 e4
  refine hQ h4 (by rw [e4]; exact F7) (by rw [e4]; exact T7) (by rw [e4]; rfl) (by rw [e4]; rfl) (by rw [e4, e7]; rfl)
theorem px_from {t k : Nat} {Q : Option Nat → AH → Prop} (hr : 1 ≤ h.rc) (hs : 2 ≤ h.rs) (hQ : ∀ h', Fr W0 h.c h'.c → (h'.kd h.sz).1 = 19 → h'.fr 1901 h.sz = some t → h'.fr 1900 h.sz = some (D.r k) → h'.sz = h.sz + 1 → h'.rc = h.rc - 1 → h'.rs = h.rs - 2 → Q (some h.sz) h') : wp_X16_from t (some (D.r k)) h Q := by
  unfold wp_X16_from
  refine ⟨⟨hr, hs⟩, ?_⟩
  rintro h1 rfl
  unfold wp_X19_init
  refine ⟨nn_of rfl (show ((h.new 19 0 2).kd h.sz).1 = 19 by rw [new_kd, if_pos rfl]), ?_⟩
  rintro h2 rfl h3 rfl h4 e4
  refine hQ h4 ?_ ?_ ?_ ?_ ?_ ?_ ?_
  · rw [e4]
    refine Fr.sfr (h := ((h.new 19 0 2).srm 0 0).sfr 1901 h.sz (some t)) ?_ _ (fun hh => absurd hh (Nat.lt_irrefl _))
    refine Fr.sfr (h := (h.new 19 0 2).srm 0 0) ?_ _ (fun hh => absurd hh (Nat.lt_irrefl _))
    exact (Fr.refl h.c).new 19 0 2
  · rw [e4]; show ((h.new 19 0 2).kd h.sz).1 = 19; rw [new_kd, if_pos rfl]
  · rw [e4]; show ((((h.new 19 0 2).srm 0 0).sfr 1901 h.sz (some t)).sfr 1900 h.sz (some (D.r k))).fr 1901 h.sz = _; rw [sfr_ne _ _ _ _ (by decide), sfr_same]
  · rw [e4]; exact sfr_same _ _ _ _
  · rw [e4]; rfl
  · rw [e4]; rfl
  · rw [e4]; rfl
theorem px_it19 {q k : Nat} {Q : Option Nat → AH → Prop} (hk : k < V.n) (R : TrR h.c L D A.g V o) (hq : (h.kd q).1 = 19) (ql : q < h.sz) (q1 : h.fr 1901 q = some D.t) (q0 : h.fr 1900 q = some (D.r k)) (hr : 1 ≤ h.rc) (hs : 2 ≤ h.rs) (hQ : ∀ h', Fr W0 h.c h'.c → It2 h'.c D h.sz q k k → h'.sz = h.sz + 1 → h'.rc = h.rc - 1 → h'.rs = h.rs - 2 → Q (some h.sz) h') : wp_X19_iterator q h Q := by
  have N := R.nd k hk
  unfold wp_X19_iterator
  refine ⟨⟨hr, hs⟩, ?_⟩
  rintro h1 rfl
  unfold wp_X20_init
  have hne : q ≠ h.sz := by omega
  have hnr : D.r k ≠ h.sz := by have : D.r k < h.sz := N.l; omega
  have k20 : ((h.new 20 0 2).kd h.sz).1 = 20 := by rw [new_kd, if_pos rfl]
  refine ⟨nn_of rfl k20, ?_⟩
  intro h2 e2
  have F2 : Fr W0 h.c h2.c := by
    rw [e2]
    refine Fr.sfr (h := (h.new 20 0 2).srm 0 0) ?_ _ (fun hh => absurd hh (Nat.lt_irrefl _))
    exact (Fr.refl h.c).new 20 0 2
  have e21 : h2.fr 2001 h.sz = some q := by rw [e2]; exact sfr_same _ _ _ _
  have e20 : h2.fr 1900 q = some (D.r k) := (F2.fr 1900 q ql id).trans q0
  have ei : h2.fi 1502 (D.r k) = I k := (F2.fi 1502 _ N.l id).trans N.ix
  have kq : (h2.kd q).1 = 19 := by rw [show h2.kd q = h.kd q from F2.kd q ql]; exact hq
  have kr : (h2.kd (D.r k)).1 = 15 := by rw [show h2.kd (D.r k) = h.kd (D.r k) from F2.kd _ N.l]; exact N.k
  rw [e21, adr_some, e20, adr_some, ei]
  refine ⟨nn_of rfl kq, nn_of rfl kr, ?_⟩
  intro h5 e5 h6 e6
  have F5 : Fr W0 h.c h5.c := by rw [e5]; exact F2.sfi _ (fun hh => absurd hh (Nat.lt_irrefl _))
  have F6 : Fr W0 h.c h6.c := by rw [e6]; exact F5
  refine hQ h6 F6 ⟨?_, ?_, ?_, ?_, by rw [F6.kd q ql]; exact hq, Nat.lt_of_lt_of_le ql F6.sz, (F6.fr 1901 q ql id).trans q1, (F6.fr 1900 q ql id).trans q0⟩ ?_ ?_ ?_
  · rw [e6, e5, e2]; exact k20
  · rw [e6, e5, e2]; exact Nat.lt_succ_self _
  · rw [e6, e5]; exact e21
  · rw [e6, e5]; exact sfi_same _ _ _ _
  · rw [e6, e5, e2]; rfl
  · rw [e6, e5, e2]; rfl
  · rw [e6, e5, e2]; rfl
theorem px_itT {Q : Option Nat → AH → Prop} (h0 : 0 < V.n) (R : TrR h.c L D A.g V o) (rt : h.fr 1600 D.t = some (D.r 0)) (hr : 2 ≤ h.rc) (hs : 4 ≤ h.rs) (hQ : ∀ h', Fr W0 h.c h'.c → It2 h'.c D (h.sz + 1) h.sz 0 0 → h'.sz = h.sz + 2 → h'.rc = h.rc - 2 → h'.rs = h.rs - 4 → Q (some (h.sz + 1)) h') : wp_X16_iterator D.t h Q := by
  unfold wp_X16_iterator
  rw [rt]
  refine ⟨nn_of rfl R.tk, 1, 2, ⟨by omega, by omega⟩, px_from (h := h.srm 1 2) (Nat.le_refl _) (Nat.le_refl _) ?_⟩
  intro h3 F3 k3 t3 r3 z3 c3 s3 h4 e4
  have R4 : TrR h4.c L D A.g V o := by rw [e4]; exact R.keep (c' := h3.c) F3 (fun f b _ => id) id id id (fun _ _ => id)
  have z4 : h4.sz = h.sz + 1 := by rw [e4]; exact z3
  have k4 : (h4.kd h.sz).1 = 19 := by rw [e4]; exact k3
  rw [adr_some]
  have hz : (h.srm 1 2).sz = h.sz := rfl
  rw [hz]
  refine ⟨nn_of rfl k4, 1, 2, ⟨by rw [e4]; show 1 ≤ h.rc - 1; omega, by rw [e4]; show 2 ≤ h.rs - 2; omega⟩, px_it19 (h := h4.srm 1 2) h0 R4 k4 (by show h.sz < h4.sz; omega) (by rw [e4]; exact t3) (by rw [e4]; exact r3) (Nat.le_refl _) (Nat.le_refl _) ?_⟩
  intro h9 F9 I9 z9 c9 s9 h10 e10
  have e9 : (h4.srm 1 2).sz = h.sz + 1 := z4
  rw [e9] at I9 z9 ⊢
  refine hQ h10 ?_ (by rw [e10]; exact I9) (by rw [e10]; exact z9) (by rw [e10, e4]; show h.rc - 1 - 1 = _; omega) (by rw [e10, e4]; show h.rs - 2 - 2 = _; omega)
  rw [e10]
  have F4 : Fr W0 h.c h4.c := by rw [e4]; exact F3
  exact F4.trans F9
/-- a walk over a part of the tree, with what it writes. -/
theorem eachT {σ : Type} {a q k : Nat} (K : trK A V sz) (hk : k < V.n) {E : σ → AH → Prop} {Bd : σ → Option Nat → AH → (σ → AH → Prop) → Prop} {s0 : σ} {h6 : AH} (W : Nat → Nat → Prop) (Inv : Nat → σ → AH → Prop) (hI : It2 h6.c D a q k k) (h0 : Inv 0 s0 h6)
    (hR : ∀ i s U, Inv i s U → TrR U.c L D A.g V o) (hW : ¬ W 2001 a ∧ ¬ W 2000 a ∧ ¬ W 1901 q ∧ ¬ W 1900 q)
    (hS : ∀ i s U U', Inv i s U → Fr (WI2 a) U.c U'.c → U'.rc = U.rc → U'.rs = U.rs → U'.sz = U.sz → Inv i s U')
    (hE : ∀ s h', Inv (sz k) s h' → E s h') (hB : ∀ i s h' KK, i < sz k → Inv i s h' → (∀ s' h'', Inv (i + 1) s' h'' → Fr W h'.c h''.c → KK s' h'') → Bd s (some (D.r (k + i))) h' KK) :
    xlp (σ := σ) (fun s T kk => xjn (α := Int32) (fun J =>
      ((nn T (some a) 24 ∧ wp_J16_hasNext (adr (some a)) (T.srm 0 0) fun r h' => ∀ h'', h'' = h'.srm T.rc T.rs → J r h'') ∨
       (nn T (some a) 20 ∧ wp_X20_hasNext (adr (some a)) (T.srm 0 0) fun r h' => ∀ h'', h'' = h'.srm T.rc T.rs → J r h''))) (fun r14 h15 =>
      ((r14 = 0 → E s h15) ∧ (¬ r14 = 0 →
      xjn (α := Option Nat) (fun J =>
      ((nn h15 (some a) 24 ∧ cl h15 fun mc ms => wp_J16_next (adr (some a)) (h15.srm mc ms) fun r h' => ∀ h'', h'' = h'.srm (h15.rc - mc) (h15.rs - ms) → J r h'') ∨
       (nn h15 (some a) 20 ∧ cl h15 fun mc ms => wp_X20_next (adr (some a)) (h15.srm mc ms) fun r h' => ∀ h'', h'' = h'.srm (h15.rc - mc) (h15.rs - ms) → J r h''))) (fun r19 h20 => Bd s r19 h20 kk))))) s0 h6 := by
  refine xlp_cnt (sz k) (fun i s U => Inv i s U ∧ It2 U.c D a q k (k + i)) ⟨h0, hI⟩ ?_
  rintro i s U KK hi ⟨v1, IU⟩ hK
  have RU := hR i s U v1
  rw [adr_some]
  refine ⟨fun r V' => r = (if k + i = k + sz k then 0 else 1) ∧ V' = U, .inr ⟨nn_of rfl IU.k, pc_hasNext2 (h := U.srm 0 0) K RU IU hk (by omega) (by omega) (pu ⟨rfl, rfl⟩)⟩, ?_⟩
  rintro r V' ⟨rfl, rfl⟩
  by_cases ei : i = sz k
  · subst ei
    rw [if_pos rfl]
    exact brT rfl (hE s V' v1)
  rw [if_neg (by omega)]
  have hin : i < sz k := by omega
  refine brF (by decide) ⟨fun r V2 => r = some (D.r (k + i)) ∧ Inv i s V2 ∧ It2 V2.c D a q k (k + (i + 1)), .inr ⟨nn_of rfl IU.k, 0, 0, ⟨Nat.zero_le _, Nat.zero_le _⟩, ?_⟩, ?_⟩
  · refine pc_next2 (h := V'.srm 0 0) K RU IU hk (by omega) (by omega) ?_
    intro h' F' It' c' s' z' h'' e''
    refine ⟨rfl, hS i s V' h'' v1 (by rw [e'']; exact F') (by rw [e'']; rfl) (by rw [e'']; rfl) (by rw [e'']; exact z'), by rw [e'']; exact It'⟩
  · rintro r V2 ⟨rfl, v2, I2⟩
    exact hB i s V2 KK hin v2 (fun s' h'' hv F => hK _ _ hin ⟨hv, I2.keep F hW.1 hW.2.1 hW.2.2.1 hW.2.2.2⟩)
end
