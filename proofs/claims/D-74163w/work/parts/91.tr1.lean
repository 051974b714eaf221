/-! plain: tr1 -/
set_option maxRecDepth 100000
section
variable {tp : Nat → Nat} {n : Nat} {A : PG}

/-- a tree that is being read: numbered as it comes; how many nodes below each. -/
def PT : Type := Tv × (Nat → Nat)
def PT.V (P : PT) : Tv := P.1
def PT.sz (P : PT) : Nat → Nat := P.2
def Tv.mkT (n : Nat) (pd : Nat → Nat) (nu : Nat → Int32) (pa : Nat → Option Nat) (pl : Nat → Nat) (kd : Nat → Nat → Nat) (dp : Nat → Nat) : Tv := (n, pd, nu, pa, pl, kd, dp)
def PT.nil : PT := (Tv.mkT 0 (fun _ => 0) (fun _ => 0) (fun _ => none) (fun _ => 0) (fun _ _ => 0) (fun _ => 0), fun _ => 0)
def PT.add (P : PT) (p u : Nat) (pa : Option Nat) (pl dp : Nat) : PT :=
  (Tv.mkT (P.V.n + 1) (updN P.V.pd P.V.n p) (updN P.V.nu P.V.n (I u)) (updN P.V.pa P.V.n pa) (updN P.V.pl P.V.n pl) P.V.kd (updN P.V.dp P.V.n dp), P.sz)
def PT.kid (P : PT) (i j : Nat) : PT := (Tv.mkT P.V.n P.V.pd P.V.nu P.V.pa P.V.pl (updN P.V.kd i (updN (P.V.kd i) j P.V.n)) P.V.dp, P.sz)
def PT.cls (P : PT) (i : Nat) : PT := (P.V, updN P.sz i (P.V.n - i))

abbrev RN : Type := Except Fl (PT × Tk)
/-- children of a node. -/
def pKs (tp : Nat → Nat) (n : Nat) (A : PG) (p i dp : Nat) (nd : Option Nat → Nat → Option Nat → Nat → PT → Tk → RN) : Nat → Nat → PT → Tk → RN
  | 0, _, P, t => if A.g.kn p = 0 then .ok (P.cls i, t) else match pEat tp n 41 t with
    | .error e => .error e
    | .ok t' => .ok (P.cls i, t')
  | r + 1, j, P, t => match pEat tp n (if j = 0 then 40 else 44) t with
    | .error e => .error e
    | .ok t1 => match nd (some (A.g.sy p (j + 1))) (dp + 1) (some i) (j + 1) (P.kid i (j + 1)) t1 with
      | .error e => .error e
      | .ok q => pKs tp n A p i dp nd r (j + 1) q.1 q.2
def pNd (tp : Nat → Nat) (n : Nat) (A : PG) (oth : Nat) : Nat → Option Nat → Nat → Option Nat → Nat → PT → Tk → RN
  | 0, _, _, _, _, _, t => .error (bad t 2)
  | f + 1, need, dp, pa, pl, P, t =>
    if isNm tp t then
      match fdN A.pn A.g.nP (wrd tp t) with
      | none => .error (bad t 3)
      | some p =>
        if oth + P.V.n = 40 ∨ 12 ≤ dp then .error (bad t 6)
        else if need ≠ none ∧ need ≠ some (A.g.sy p 0) then .error (bad t 7)
        else pKs tp n A p P.V.n dp (pNd tp n A oth f) (A.g.kn p) 0 (P.add p (if (nxt tp n t).kd = 3 then (nxt tp n t).nu else 0) pa pl dp) (if (nxt tp n t).kd = 3 then nxt tp n (nxt tp n t) else nxt tp n t)
    else .error (bad t 2)
/-- a whole text as a node. -/
def pTr (tp : Nat → Nat) (n : Nat) (A : PG) (oth : Nat) (need : Option Nat) (dp : Nat) : Except Fl PT :=
  match pNd tp n A oth 16 need dp none 0 PT.nil (tok tp n 0) with
  | .error e => .error e
  | .ok q => if q.2.kd = 0 then .ok q.1 else .error (bad q.2 2)

/-- below a nothing is changed. -/
def ptF (P Q : PT) (a : Nat) : Prop :=
  (∀ k, k < a → Q.V.pd k = P.V.pd k) ∧
  (∀ k, k < a → Q.V.nu k = P.V.nu k) ∧
  (∀ k, k < a → Q.V.pa k = P.V.pa k) ∧
  (∀ k, k < a → Q.V.pl k = P.V.pl k) ∧
  (∀ k, k < a → Q.V.kd k = P.V.kd k) ∧
  (∀ k, k < a → Q.V.dp k = P.V.dp k) ∧
  (∀ k, k < a → Q.sz k = P.sz k)
theorem ptF.pd {P Q : PT} {a : Nat} (h9 : ptF P Q a) : ∀ k, k < a → Q.V.pd k = P.V.pd k := h9.1
theorem ptF.nu {P Q : PT} {a : Nat} (h9 : ptF P Q a) : ∀ k, k < a → Q.V.nu k = P.V.nu k := h9.2.1
theorem ptF.pa {P Q : PT} {a : Nat} (h9 : ptF P Q a) : ∀ k, k < a → Q.V.pa k = P.V.pa k := h9.2.2.1
theorem ptF.pl {P Q : PT} {a : Nat} (h9 : ptF P Q a) : ∀ k, k < a → Q.V.pl k = P.V.pl k := h9.2.2.2.1
theorem ptF.kd {P Q : PT} {a : Nat} (h9 : ptF P Q a) : ∀ k, k < a → Q.V.kd k = P.V.kd k := h9.2.2.2.2.1
theorem ptF.dp {P Q : PT} {a : Nat} (h9 : ptF P Q a) : ∀ k, k < a → Q.V.dp k = P.V.dp k := h9.2.2.2.2.2.1
theorem ptF.sz {P Q : PT} {a : Nat} (h9 : ptF P Q a) : ∀ k, k < a → Q.sz k = P.sz k := h9.2.2.2.2.2.2
theorem ptF.refl (P : PT) (a : Nat) : ptF P P a := ⟨fun _ _ => rfl, fun _ _ => rfl, fun _ _ => rfl, fun _ _ => rfl, fun _ _ => rfl, fun _ _ => rfl, fun _ _ => rfl⟩
theorem ptF.trans {P Q R : PT} {a b : Nat} (h : ptF P Q a) (g : ptF Q R b) (hb : a ≤ b) : ptF P R a :=
  ⟨fun k hk => (g.pd k (by omega)).trans (h.pd k hk), fun k hk => (g.nu k (by omega)).trans (h.nu k hk), fun k hk => (g.pa k (by omega)).trans (h.pa k hk), fun k hk => (g.pl k (by omega)).trans (h.pl k hk), fun k hk => (g.kd k (by omega)).trans (h.kd k hk), fun k hk => (g.dp k (by omega)).trans (h.dp k hk), fun k hk => (g.sz k (by omega)).trans (h.sz k hk)⟩

/-- a node with all below it. -/
def ndK (A : PG) (P : PT) (k b : Nat) : Prop :=
  (P.V.pd k < A.g.nP) ∧
  (1 ≤ P.sz k) ∧
  (k + P.sz k ≤ b) ∧
  (P.V.dp k < 12) ∧
  (∃ x, x < 10000 ∧ P.V.nu k = I x) ∧
  (∀ j, 1 ≤ j → j ≤ A.g.kn (P.V.pd k) → (k < P.V.kd k j ∧ P.V.kd k j < k + P.sz k) ∧ P.V.kd k j + P.sz (P.V.kd k j) ≤ k + P.sz k ∧ P.V.pa (P.V.kd k j) = some k ∧ P.V.pl (P.V.kd k j) = j ∧ A.g.sy (P.V.pd (P.V.kd k j)) 0 = A.g.sy (P.V.pd k) j ∧ P.V.dp (P.V.kd k j) = P.V.dp k + 1) ∧
  (1 ≤ A.g.kn (P.V.pd k) → P.V.kd k 1 = k + 1) ∧
  (∀ j, 1 ≤ j → j < A.g.kn (P.V.pd k) → P.V.kd k (j + 1) = P.V.kd k j + P.sz (P.V.kd k j)) ∧
  (k + P.sz k = if A.g.kn (P.V.pd k) = 0 then k + 1 else P.V.kd k (A.g.kn (P.V.pd k)) + P.sz (P.V.kd k (A.g.kn (P.V.pd k))))
theorem ndK.pd {A : PG} {P : PT} {k b : Nat} (h9 : ndK A P k b) : P.V.pd k < A.g.nP := h9.1
theorem ndK.s1 {A : PG} {P : PT} {k b : Nat} (h9 : ndK A P k b) : 1 ≤ P.sz k := h9.2.1
theorem ndK.s2 {A : PG} {P : PT} {k b : Nat} (h9 : ndK A P k b) : k + P.sz k ≤ b := h9.2.2.1
theorem ndK.d {A : PG} {P : PT} {k b : Nat} (h9 : ndK A P k b) : P.V.dp k < 12 := h9.2.2.2.1
theorem ndK.u {A : PG} {P : PT} {k b : Nat} (h9 : ndK A P k b) : ∃ x, x < 10000 ∧ P.V.nu k = I x := h9.2.2.2.2.1
theorem ndK.c {A : PG} {P : PT} {k b : Nat} (h9 : ndK A P k b) : ∀ j, 1 ≤ j → j ≤ A.g.kn (P.V.pd k) → (k < P.V.kd k j ∧ P.V.kd k j < k + P.sz k) ∧ P.V.kd k j + P.sz (P.V.kd k j) ≤ k + P.sz k ∧ P.V.pa (P.V.kd k j) = some k ∧ P.V.pl (P.V.kd k j) = j ∧ A.g.sy (P.V.pd (P.V.kd k j)) 0 = A.g.sy (P.V.pd k) j ∧ P.V.dp (P.V.kd k j) = P.V.dp k + 1 := h9.2.2.2.2.2.1
theorem ndK.c1 {A : PG} {P : PT} {k b : Nat} (h9 : ndK A P k b) : 1 ≤ A.g.kn (P.V.pd k) → P.V.kd k 1 = k + 1 := h9.2.2.2.2.2.2.1
theorem ndK.c2 {A : PG} {P : PT} {k b : Nat} (h9 : ndK A P k b) : ∀ j, 1 ≤ j → j < A.g.kn (P.V.pd k) → P.V.kd k (j + 1) = P.V.kd k j + P.sz (P.V.kd k j) := h9.2.2.2.2.2.2.2.1
theorem ndK.c3 {A : PG} {P : PT} {k b : Nat} (h9 : ndK A P k b) : k + P.sz k = if A.g.kn (P.V.pd k) = 0 then k + 1 else P.V.kd k (A.g.kn (P.V.pd k)) + P.sz (P.V.kd k (A.g.kn (P.V.pd k))) := h9.2.2.2.2.2.2.2.2
/-- a node's parent is at or behind a. -/
def parK (A : PG) (P : PT) (a k : Nat) : Prop := ∃ q, P.V.pa k = some q ∧ a ≤ q ∧ q < k ∧ 1 ≤ P.V.pl k ∧ P.V.pl k ≤ A.g.kn (P.V.pd q) ∧ P.V.kd q (P.V.pl k) = k

theorem ndK.mono {P Q : PT} {k b a b' : Nat} (K : ndK A P k b) (F : ptF P Q a) (hk : k < a) (hb : b ≤ a) (hb' : b ≤ b') : ndK A Q k b' := by
  have e1 := F.pd k hk
  have e2 := F.sz k hk
  have e3 := F.kd k hk
  have s1 := K.s1
  have s2 := K.s2
  have lt : ∀ j, 1 ≤ j → j ≤ A.g.kn (P.V.pd k) → P.V.kd k j < a ∧ Q.sz (P.V.kd k j) = P.sz (P.V.kd k j) := fun j h1 h2 => by
    have h3 := K.c j h1 h2
    have : P.V.kd k j < a := by
      have := h3.1.2
      omega
    exact ⟨this, F.sz _ this⟩
  refine ⟨by rw [e1]; exact K.pd, by rw [e2]; exact s1, by rw [e2]; omega, by rw [F.dp k hk]; exact K.d, by rw [F.nu k hk]; exact K.u, ?_, ?_, ?_, ?_⟩
  · rw [e1, e2, e3]
    intro j h1 h2
    obtain ⟨l1, l2⟩ := lt j h1 h2
    rw [l2, F.pa _ l1, F.pl _ l1, F.pd _ l1, F.dp _ l1, F.dp k hk]
    exact K.c j h1 h2
  · rw [e1, e3]; exact K.c1
  · rw [e1, e3]
    intro j h1 h2
    rw [(lt j h1 (by omega)).2]; exact K.c2 j h1 h2
  · rw [e1, e2, e3]
    by_cases hz : A.g.kn (P.V.pd k) = 0
    · rw [if_pos hz]
      have := K.c3
      rw [if_pos hz] at this
      exact this
    · rw [if_neg hz]
      have := K.c3
      rw [if_neg hz] at this
      rw [(lt _ (by omega) (Nat.le_refl _)).2]
      exact this
theorem parK.mono {P Q : PT} {k a a' : Nat} (K : parK A P a k) (F : ptF P Q a') (hk : k < a') : parK A Q a k := by
  obtain ⟨q, h1, h2, h3, h4, h5, h6⟩ := K
  exact ⟨q, by rw [F.pa k hk]; exact h1, h2, h3, by rw [F.pl k hk]; exact h4, by rw [F.pl k hk, F.pd q (by omega)]; exact h5, by rw [F.pl k hk, F.kd q (by omega)]; exact h6⟩

/-- what a reading of a node gives. -/
def ndR (A : PG) (oth : Nat) (need : Option Nat) (dp : Nat) (pa : Option Nat) (pl : Nat) (P Q : PT) : Prop :=
  (P.V.n < Q.V.n) ∧
  (oth + Q.V.n ≤ 40) ∧
  (ptF P Q P.V.n) ∧
  (Q.V.pa P.V.n = pa) ∧
  (Q.V.pl P.V.n = pl) ∧
  (Q.V.dp P.V.n = dp) ∧
  (P.V.n + Q.sz P.V.n = Q.V.n) ∧
  (need = none ∨ need = some (A.g.sy (Q.V.pd P.V.n) 0)) ∧
  (∀ k, P.V.n ≤ k → k < Q.V.n → ndK A Q k Q.V.n) ∧
  (∀ k, P.V.n < k → k < Q.V.n → parK A Q P.V.n k)
theorem ndR.lt {A : PG} {oth : Nat} {need : Option Nat} {dp : Nat} {pa : Option Nat} {pl : Nat} {P Q : PT} (h9 : ndR A oth need dp pa pl P Q) : P.V.n < Q.V.n := h9.1
theorem ndR.le {A : PG} {oth : Nat} {need : Option Nat} {dp : Nat} {pa : Option Nat} {pl : Nat} {P Q : PT} (h9 : ndR A oth need dp pa pl P Q) : oth + Q.V.n ≤ 40 := h9.2.1
theorem ndR.F {A : PG} {oth : Nat} {need : Option Nat} {dp : Nat} {pa : Option Nat} {pl : Nat} {P Q : PT} (h9 : ndR A oth need dp pa pl P Q) : ptF P Q P.V.n := h9.2.2.1
theorem ndR.rp {A : PG} {oth : Nat} {need : Option Nat} {dp : Nat} {pa : Option Nat} {pl : Nat} {P Q : PT} (h9 : ndR A oth need dp pa pl P Q) : Q.V.pa P.V.n = pa := h9.2.2.2.1
theorem ndR.rl {A : PG} {oth : Nat} {need : Option Nat} {dp : Nat} {pa : Option Nat} {pl : Nat} {P Q : PT} (h9 : ndR A oth need dp pa pl P Q) : Q.V.pl P.V.n = pl := h9.2.2.2.2.1
theorem ndR.rd {A : PG} {oth : Nat} {need : Option Nat} {dp : Nat} {pa : Option Nat} {pl : Nat} {P Q : PT} (h9 : ndR A oth need dp pa pl P Q) : Q.V.dp P.V.n = dp := h9.2.2.2.2.2.1
theorem ndR.rs {A : PG} {oth : Nat} {need : Option Nat} {dp : Nat} {pa : Option Nat} {pl : Nat} {P Q : PT} (h9 : ndR A oth need dp pa pl P Q) : P.V.n + Q.sz P.V.n = Q.V.n := h9.2.2.2.2.2.2.1
theorem ndR.rn {A : PG} {oth : Nat} {need : Option Nat} {dp : Nat} {pa : Option Nat} {pl : Nat} {P Q : PT} (h9 : ndR A oth need dp pa pl P Q) : need = none ∨ need = some (A.g.sy (Q.V.pd P.V.n) 0) := h9.2.2.2.2.2.2.2.1
theorem ndR.nd {A : PG} {oth : Nat} {need : Option Nat} {dp : Nat} {pa : Option Nat} {pl : Nat} {P Q : PT} (h9 : ndR A oth need dp pa pl P Q) : ∀ k, P.V.n ≤ k → k < Q.V.n → ndK A Q k Q.V.n := h9.2.2.2.2.2.2.2.2.1
theorem ndR.pr {A : PG} {oth : Nat} {need : Option Nat} {dp : Nat} {pa : Option Nat} {pl : Nat} {P Q : PT} (h9 : ndR A oth need dp pa pl P Q) : ∀ k, P.V.n < k → k < Q.V.n → parK A Q P.V.n k := h9.2.2.2.2.2.2.2.2.2

theorem pKs_ok (W : A.g.WF) {oth p i dp u : Nat} {pa : Option Nat} {pl : Nat} {nd : Option Nat → Nat → Option Nat → Nat → PT → Tk → RN} (hp : p < A.g.nP) (hd : dp < 12) (hu : u < 10000)
    (hnd : ∀ need dp pa pl P t P' t', oth + P.V.n ≤ 40 → nd need dp pa pl P t = .ok (P', t') → ndR A oth need dp pa pl P P') :
    ∀ (r j : Nat) {P0 P : PT} {t t' : Tk} {P' : PT}, P0.V.n = i → r + j = A.g.kn p → i < P.V.n → oth + P.V.n ≤ 40 → ptF P0 P i → P.V.pd i = p → P.V.nu i = I u → P.V.pa i = pa → P.V.pl i = pl → P.V.dp i = dp →
      (∀ k, i < k → k < P.V.n → ndK A P k P.V.n) → (∀ k, i < k → k < P.V.n → parK A P i k) → (∀ k, i < k → k < P.V.n → P.V.pa k = some i → P.V.pl k ≤ j) →
      (∀ j', 1 ≤ j' → j' ≤ j → (i < P.V.kd i j' ∧ P.V.kd i j' < P.V.n) ∧ P.V.kd i j' + P.sz (P.V.kd i j') ≤ P.V.n ∧ P.V.pa (P.V.kd i j') = some i ∧ P.V.pl (P.V.kd i j') = j' ∧ A.g.sy (P.V.pd (P.V.kd i j')) 0 = A.g.sy p j' ∧ P.V.dp (P.V.kd i j') = dp + 1) →
      (1 ≤ j → P.V.kd i 1 = i + 1) → (∀ j', 1 ≤ j' → j' < j → P.V.kd i (j' + 1) = P.V.kd i j' + P.sz (P.V.kd i j')) → (P.V.n = if j = 0 then i + 1 else P.V.kd i j + P.sz (P.V.kd i j)) →
      pKs tp n A p i dp nd r j P t = .ok (P', t') → ndR A oth none dp pa pl P0 P' ∧ P'.V.pd i = p
  | 0, j, P0, P, t, t', P', e0, hj, hi, h40, F, f1, f2, f3, f4, f5, g1, g2, g7, g3, g4, g5, g6, h => by
    have hj' : j = A.g.kn p := by omega
    have key : P' = P.cls i := by
      unfold pKs at h
      by_cases hz : A.g.kn p = 0
      · rw [if_pos hz] at h
        exact (Prod.mk.inj (Except.ok.inj h)).1.symm
      · rw [if_neg hz] at h
        cases he : pEat tp n 41 t with
        | error e => rw [he] at h; exact absurd h (by simp)
        | ok t1 => rw [he] at h; exact (Prod.mk.inj (Except.ok.inj h)).1.symm
    subst key
    have es : (P.cls i).sz = updN P.sz i (P.V.n - i) := rfl
    have eV : (P.cls i).V = P.V := rfl
    have so : ∀ k, k ≠ i → (P.cls i).sz k = P.sz k := fun k hk => by rw [es, updN_ne _ _ hk]
    have si : (P.cls i).sz i = P.V.n - i := by rw [es, updN_same]
    have Fc : ∀ a, a ≤ i → ptF P (P.cls i) a := fun a ha => ⟨fun _ _ => rfl, fun _ _ => rfl, fun _ _ => rfl, fun _ _ => rfl, fun _ _ => rfl, fun _ _ => rfl, fun k hk => so k (by omega)⟩
    refine ⟨⟨by rw [eV]; omega, by rw [eV]; omega, by rw [e0]; exact F.trans (Fc i (Nat.le_refl _)) (Nat.le_refl _), by rw [e0, eV]; exact f3, by rw [e0, eV]; exact f4, by rw [e0, eV]; exact f5, by rw [e0, si, eV]; omega, .inl rfl, fun k k1 k2 => ?_, fun k k1 k2 => ?_⟩, by rw [eV]; exact f1⟩
    · rw [eV] at k2 ⊢
      rw [e0] at k1
      by_cases ek : k = i
      · subst ek
        have hkn : ∀ j', 1 ≤ j' → j' ≤ A.g.kn p → k < P.V.kd k j' := fun j' a b => (g3 j' a (by omega)).1.1
        refine ⟨by rw [eV, f1]; exact hp, by rw [si]; omega, by rw [si]; omega, by rw [eV, f5]; exact hd, by rw [eV, f2]; exact ⟨u, hu, rfl⟩, ?_, ?_, ?_, ?_⟩
        · rw [eV, f1, f5, si]
          intro j' a b
          have q := g3 j' a (by omega)
          rw [so _ (by have := q.1.1; omega)]
          exact ⟨⟨q.1.1, by have := q.1.2; omega⟩, by have := q.2.1; omega, q.2.2⟩
        · rw [eV, f1]; intro h1; exact g4 (by omega)
        · rw [eV, f1]
          intro j' a b
          rw [so _ (by have := hkn j' a (by omega); omega)]
          exact g5 j' a (by omega)
        · rw [eV, f1, si]
          by_cases hz : A.g.kn p = 0
          · rw [if_pos hz]
            rw [if_pos (by omega)] at g6
            omega
          · rw [if_neg hz]
            rw [if_neg (by omega), hj'] at g6
            rw [so _ (by have := hkn (A.g.kn p) (by omega) (Nat.le_refl _); omega)]
            omega
      · -- below
        have K := g1 k (by omega) k2
        have hkc : ∀ j', 1 ≤ j' → j' ≤ A.g.kn (P.V.pd k) → i < P.V.kd k j' := fun j' a b => by have := (K.c j' a b).1.1; omega
        refine ⟨K.pd, by rw [so k ek]; exact K.s1, by rw [so k ek]; exact K.s2, K.d, K.u, fun j' a b => ?_, K.c1, fun j' a b => ?_, ?_⟩
        · rw [so k ek, so _ (by have := hkc j' a b; show P.V.kd k j' ≠ i; omega)]; exact K.c j' a b
        · rw [so _ (by have := hkc j' a (by show j' ≤ A.g.kn (P.V.pd k); have h9 : j' < A.g.kn (P.V.pd k) := b; omega); show P.V.kd k j' ≠ i; omega)]; exact K.c2 j' a b
        · rw [so k ek]
          have := K.c3
          by_cases hz : A.g.kn (P.V.pd k) = 0
          · rw [if_pos hz] at this
            rw [if_pos (show A.g.kn ((P.cls i).V.pd k) = 0 from hz)]; exact this
          · rw [if_neg hz] at this
            rw [if_neg (show ¬ A.g.kn ((P.cls i).V.pd k) = 0 from hz), so _ (by have := hkc _ (show 1 ≤ A.g.kn (P.V.pd k) by omega) (Nat.le_refl _); show P.V.kd k (A.g.kn (P.V.pd k)) ≠ i; omega)]
            exact this
    · rw [eV] at k2
      rw [e0] at k1
      rw [e0]
      exact g2 k k1 k2
  | r + 1, j, P0, P, t, t', P', e0, hj, hi, h40, F, f1, f2, f3, f4, f5, g1, g2, g7, g3, g4, g5, g6, h => by
    unfold pKs at h
    cases he : pEat tp n (if j = 0 then 40 else 44) t with
    | error e => rw [he] at h; exact absurd h (by simp)
    | ok t1 =>
    rw [he] at h
    dsimp only at h
    cases hn : nd (some (A.g.sy p (j + 1))) (dp + 1) (some i) (j + 1) (P.kid i (j + 1)) t1 with
    | error e => rw [hn] at h; exact absurd h (by simp)
    | ok q =>
    obtain ⟨P2, t2⟩ := q
    rw [hn] at h
    dsimp only at h
    have en : (P.kid i (j + 1)).V.n = P.V.n := rfl
    have R := hnd _ _ _ _ (P.kid i (j + 1)) t1 P2 t2 h40 hn
    have kdi : (P.kid i (j + 1)).V.kd i = updN (P.V.kd i) (j + 1) P.V.n := by
      show updN P.V.kd i _ i = _
      rw [updN_same]
    have kdo : ∀ k, k ≠ i → (P.kid i (j + 1)).V.kd k = P.V.kd k := fun k hk => by
      show updN P.V.kd i _ k = _
      rw [updN_ne _ _ hk]
    have F2 := R.F
    rw [en] at F2
    -- what stands at the node
    have e2 : P2.V.kd i = updN (P.V.kd i) (j + 1) P.V.n := by rw [F2.kd i hi, kdi]
    have rlt := R.lt
    rw [en] at rlt
    have Fi : ptF P P2 i := ⟨fun k hk => F2.pd k (by omega), fun k hk => F2.nu k (by omega), fun k hk => F2.pa k (by omega), fun k hk => F2.pl k (by omega), fun k hk => by rw [F2.kd k (by omega)]; exact kdo k (by omega), fun k hk => F2.dp k (by omega), fun k hk => F2.sz k (by omega)⟩
    -- nodes there were
    have old : ∀ k, i < k → k < P.V.n → ndK A P2 k P2.V.n := fun k k1 k2 => by
      have K := g1 k k1 k2
      have K2 : ndK A (P.kid i (j + 1)) k P.V.n := by
        refine ⟨K.pd, K.s1, K.s2, K.d, K.u, ?_, ?_, ?_, ?_⟩
        · rw [kdo k (by omega)]; exact K.c
        · rw [kdo k (by omega)]; exact K.c1
        · rw [kdo k (by omega)]; exact K.c2
        · rw [kdo k (by omega)]; exact K.c3
      exact K2.mono F2 k2 (Nat.le_refl _) (by omega)
    have oldp : ∀ k, i < k → k < P.V.n → parK A P2 i k := fun k k1 k2 => by
      obtain ⟨q, h1, h2, h3, h4, h5, h6⟩ := g2 k k1 k2
      refine ⟨q, by rw [F2.pa k k2]; exact h1, h2, h3, by rw [F2.pl k k2]; exact h4, by rw [F2.pl k k2, F2.pd q (by omega)]; exact h5, ?_⟩
      rw [F2.pl k k2, show (P.kid i (j + 1)).V.pl k = P.V.pl k from rfl]
      by_cases eq : q = i
      · subst eq
        have h7 := g7 k k1 k2 h1
        rw [e2, updN_ne _ _ (by omega)]; exact h6
      · rw [F2.kd q (by omega), kdo q eq]; exact h6
    have rrs := R.rs
    rw [en] at rrs
    have rrp := R.rp
    rw [en] at rrp
    have rrl := R.rl
    rw [en] at rrl
    have rrd := R.rd
    rw [en] at rrd
    have rrn := R.rn
    rw [en] at rrn
    have hrn : A.g.sy (P2.V.pd P.V.n) 0 = A.g.sy p (j + 1) := by
      rcases rrn with h9 | h9
      · exact absurd h9 (by simp)
      · exact (Option.some.inj h9).symm
    have pdi : P2.V.pd i = p := by rw [F2.pd i hi]; exact f1
    refine pKs_ok W hp hd hu hnd r (j + 1) (P0 := P0) e0 (by omega) (by omega) R.le (F.trans Fi (Nat.le_refl _)) pdi (by rw [F2.nu i hi]; exact f2) (by rw [F2.pa i hi]; exact f3) (by rw [F2.pl i hi]; exact f4) (by rw [F2.dp i hi]; exact f5) (fun k k1 k2 => ?_) (fun k k1 k2 => ?_) (fun k k1 k2 k3 => ?_) (fun j' a b => ?_) (fun _ => ?_) (fun j' a b => ?_) ?_ h
    · by_cases hk : k < P.V.n
      · exact old k k1 hk
      · exact R.nd k (by rw [en]; omega) k2
    · by_cases hk : k < P.V.n
      · exact oldp k k1 hk
      · by_cases ek : k = P.V.n
        · subst ek
          refine ⟨i, rrp, Nat.le_refl _, hi, by rw [rrl]; omega, by rw [rrl, pdi]; omega, ?_⟩
          rw [rrl, e2, updN_same]
        · obtain ⟨q, h1, h2, h3⟩ := R.pr k (by rw [en]; omega) k2
          rw [en] at h2
          exact ⟨q, h1, by omega, h3⟩
    · by_cases hk : k < P.V.n
      · rw [F2.pa k hk] at k3
        rw [F2.pl k hk]
        have := g7 k k1 hk k3
        show P.V.pl k ≤ j + 1
        omega
      · by_cases ek : k = P.V.n
        · subst ek
          rw [rrl]; exact Nat.le_refl _
        · obtain ⟨q, h1, h2, h3⟩ := R.pr k (by rw [en]; omega) k2
          rw [en] at h2
          rw [k3] at h1
          have := Option.some.inj h1
          omega
    · rw [e2]
      by_cases ej : j' = j + 1
      · subst ej
        rw [updN_same]
        exact ⟨⟨hi, rlt⟩, by omega, rrp, rrl, hrn, rrd⟩
      · rw [updN_ne _ _ ej]
        have g := g3 j' a (by omega)
        rw [F2.sz _ g.1.2, F2.pa _ g.1.2, F2.pl _ g.1.2, F2.pd _ g.1.2, F2.dp _ g.1.2]
        exact ⟨⟨g.1.1, by have := g.1.2; omega⟩, by have h9 := g.2.1; show P.V.kd i j' + P.sz (P.V.kd i j') ≤ P2.V.n; omega, g.2.2⟩
    · rw [e2]
      by_cases ej : j = 0
      · subst ej
        rw [updN_same]
        rw [if_pos rfl] at g6
        exact g6
      · rw [updN_ne _ _ (by omega)]
        exact g4 (by omega)
    · rw [e2]
      by_cases ej : j' = j
      · subst ej
        rw [updN_same, updN_ne _ _ (by omega)]
        rw [if_neg (by omega)] at g6
        have g := g3 j' a (Nat.le_refl _)
        rw [F2.sz _ g.1.2]
        exact g6
      · rw [updN_ne _ _ (by omega), updN_ne _ _ (by omega)]
        have g := g3 j' a (by omega)
        rw [F2.sz _ g.1.2]
        exact g5 j' a (by omega)
    · rw [if_neg (by omega), e2, updN_same]
      omega

theorem pNd_ok (W : A.g.WF) {oth : Nat} : ∀ (f : Nat) (need : Option Nat) (dp : Nat) (pa : Option Nat) (pl : Nat) (P : PT) (t : Tk) (P' : PT) (t' : Tk), oth + P.V.n ≤ 40 → pNd tp n A oth f need dp pa pl P t = .ok (P', t') → ndR A oth need dp pa pl P P'
  | 0, _, _, _, _, _, _, _, _, _, h => by
    have h' : (Except.error _ : RN) = .ok _ := h
    exact absurd h' (by simp)
  | f + 1, need, dp, pa, pl, P, t, P', t', h40, h => by
    unfold pNd at h
    by_cases h1 : isNm tp t = true
    · rw [if_pos h1] at h
      cases hf : fdN A.pn A.g.nP (wrd tp t) with
      | none => rw [hf] at h; exact absurd h (by simp)
      | some p =>
        rw [hf] at h
        dsimp only at h
        have hp := fdN_lt hf
        by_cases h2 : oth + P.V.n = 40 ∨ 12 ≤ dp
        · rw [if_pos h2] at h; exact absurd h (by simp)
        rw [if_neg h2] at h
        by_cases h3 : need ≠ none ∧ need ≠ some (A.g.sy p 0)
        · rw [if_pos h3] at h; exact absurd h (by simp)
        rw [if_neg h3] at h
        generalize hu : (if (nxt tp n t).kd = 3 then (nxt tp n t).nu else 0) = u at h
        have hu2 : u < 10000 := by
          rw [← hu]
          by_cases h9 : (nxt tp n t).kd = 3
          · rw [if_pos h9]; exact isT.nu (tp := tp) (n := n) ⟨_, rfl⟩ h9
          · rw [if_neg h9]; decide
        have en : (P.add p u pa pl dp).V.n = P.V.n + 1 := rfl
        have R := pKs_ok (tp := tp) (n := n) (pa := pa) (pl := pl) W hp (show dp < 12 by omega) hu2 (fun need dp pa pl P t P' t' h40 h => pNd_ok W f need dp pa pl P t P' t' h40 h) (A.g.kn p) 0 (i := P.V.n) (P0 := P) (P := P.add p u pa pl dp) rfl (by omega) (by rw [en]; omega) (by rw [en]; omega)
          ⟨fun k hk => updN_ne _ _ (by omega), fun k hk => updN_ne _ _ (by omega), fun k hk => updN_ne _ _ (by omega), fun k hk => updN_ne _ _ (by omega), fun k hk => rfl, fun k hk => updN_ne _ _ (by omega), fun k hk => rfl⟩
          (updN_same _ _ _) (updN_same _ _ _) (updN_same _ _ _) (updN_same _ _ _) (updN_same _ _ _) (fun k k1 k2 => by rw [en] at k2; omega) (fun k k1 k2 => by rw [en] at k2; omega) (fun k k1 k2 => by rw [en] at k2; omega) (fun j' a b => by omega) (fun a => by omega) (fun j' a b => by omega) (by rw [if_pos rfl, en]) h
        obtain ⟨R, e⟩ := R
        refine ⟨R.lt, R.le, R.F, R.rp, R.rl, R.rd, R.rs, ?_, R.nd, R.pr⟩
        rw [e]
        by_cases h4 : need = none
        · exact .inl h4
        · right
          exact Classical.byContradiction fun h5 => h3 ⟨h4, h5⟩
    · rw [if_neg h1] at h; exact absurd h (by simp)

/-- a tree as it is read: with how many nodes there are below each. -/
def trK (A : PG) (V : Tv) (sz : Nat → Nat) : Prop :=
  (1 ≤ V.n) ∧
  (V.n ≤ 40) ∧
  (V.pa 0 = none) ∧
  (sz 0 = V.n) ∧
  (∀ k, k < V.n → ndK A (V, sz) k V.n) ∧
  (∀ k, 0 < k → k < V.n → parK A (V, sz) 0 k)
theorem trK.n1 {A : PG} {V : Tv} {sz : Nat → Nat} (h9 : trK A V sz) : 1 ≤ V.n := h9.1
theorem trK.n40 {A : PG} {V : Tv} {sz : Nat → Nat} (h9 : trK A V sz) : V.n ≤ 40 := h9.2.1
theorem trK.r {A : PG} {V : Tv} {sz : Nat → Nat} (h9 : trK A V sz) : V.pa 0 = none := h9.2.2.1
theorem trK.s0 {A : PG} {V : Tv} {sz : Nat → Nat} (h9 : trK A V sz) : sz 0 = V.n := h9.2.2.2.1
theorem trK.nd {A : PG} {V : Tv} {sz : Nat → Nat} (h9 : trK A V sz) : ∀ k, k < V.n → ndK A (V, sz) k V.n := h9.2.2.2.2.1
theorem trK.pr {A : PG} {V : Tv} {sz : Nat → Nat} (h9 : trK A V sz) : ∀ k, 0 < k → k < V.n → parK A (V, sz) 0 k := h9.2.2.2.2.2
theorem trK.WF {V : Tv} {sz : Nat → Nat} (K : trK A V sz) : V.WF A.g := by
  refine ⟨K.n1, K.n40, fun k hk => (K.nd k hk).pd, fun k j hk h1 h2 => ?_, fun k q hk hq => ?_, fun k hk => ?_⟩
  · have N := K.nd k hk
    have c := N.c j h1 h2
    have s := N.s2
    have : V.kd k j < V.n := by
      have h9 : V.kd k j < k + sz k := c.1.2
      have h8 : k + sz k ≤ V.n := s
      omega
    exact ⟨this, c.2.2.1, c.2.2.2.1, c.2.2.2.2.1⟩
  · have h0 : 0 < k := by
      rcases Nat.eq_zero_or_pos k with e | e
      · rw [e, K.r] at hq; exact absurd hq (by simp)
      · exact e
    obtain ⟨q', h1, h2, h3, h4, h5, h6⟩ := K.pr k h0 hk
    have e : q' = q := Option.some.inj (h1.symm.trans hq)
    subst e
    exact ⟨by omega, h4, h5, h6⟩
  · constructor
    · intro h
      rcases Nat.eq_zero_or_pos k with e | e
      · exact e
      · obtain ⟨q', h1, _⟩ := K.pr k e hk
        have h1' : V.pa k = some q' := h1
        rw [h] at h1'; exact absurd h1' (by simp)
    · intro h; rw [h]; exact K.r
theorem trK.PO {V : Tv} {sz : Nat → Nat} (K : trK A V sz) : V.PO A.g := by
  refine ⟨fun q j hq h1 h2 => ((K.nd q hq).c j h1 h2).1.1, fun q i j hq h1 hij h2 => ?_⟩
  have N := K.nd q hq
  have W := K.WF
  have step : ∀ i, 1 ≤ i → i < A.g.kn (V.pd q) → V.kd q i < V.kd q (i + 1) := fun i a b => by
    have h3 : V.kd q (i + 1) = V.kd q i + sz (V.kd q i) := N.c2 i a b
    have h4 := (W.kid q i hq a (by omega)).1
    have h5 : 1 ≤ sz (V.kd q i) := (K.nd _ h4).s1
    omega
  have key : ∀ d, i + d + 1 ≤ A.g.kn (V.pd q) → V.kd q i < V.kd q (i + d + 1) := by
    intro d
    induction d with
    | zero => intro h; exact step i h1 (by omega)
    | succ d ih =>
      intro h
      have a := ih (by omega)
      have b := step (i + d + 1) (by omega) (by omega)
      have e : i + d + 1 + 1 = i + (d + 1) + 1 := by omega
      rw [e] at b
      omega
  have := key (j - i - 1) (by omega)
  rw [show i + (j - i - 1) + 1 = j by omega] at this
  exact this
theorem pTr_ok (W : A.g.WF) {oth : Nat} {need : Option Nat} {dp : Nat} {P : PT} (ho : oth ≤ 40) (h : pTr tp n A oth need dp = .ok P) : trK A P.V P.sz ∧ oth + P.V.n ≤ 40 ∧ (need = none ∨ need = some (A.g.sy (P.V.pd 0) 0)) ∧ P.V.dp 0 = dp := by
  unfold pTr at h
  cases h1 : pNd tp n A oth 16 need dp none 0 PT.nil (tok tp n 0) with
  | error e => rw [h1] at h; exact absurd h (by simp)
  | ok q =>
    obtain ⟨P', t'⟩ := q
    rw [h1] at h
    dsimp only at h
    by_cases h2 : t'.kd = 0
    · rw [if_pos h2] at h
      have e := Except.ok.inj h
      subst e
      have R := pNd_ok W 16 need dp none 0 PT.nil (tok tp n 0) P' t' (by show oth + 0 ≤ 40; omega) h1
      have e0 : PT.nil.V.n = 0 := rfl
      have rs := R.rs
      rw [e0, Nat.zero_add] at rs
      have rd := R.rd
      rw [e0] at rd
      have rn := R.rn
      rw [e0] at rn
      have rp := R.rp
      rw [e0] at rp
      have rlt := R.lt
      rw [e0] at rlt
      have rle := R.le
      refine ⟨⟨by omega, by omega, rp, rs, fun k hk => R.nd k (by rw [e0]; omega) hk, fun k k1 k2 => by have := R.pr k (by rw [e0]; exact k1) k2; rw [e0] at this; exact this⟩, rle, rn, rd⟩
    · rw [if_neg h2] at h; exact absurd h (by simp)
end
