/-! plain: k8 -/
set_option maxRecDepth 100000
section
variable {h : AH} {q o jn tpa : Nat} {tp : Nat → Nat} {n : Nat}

/-- a reader, its tape. -/
def RdR (c : HC) (q o jn tpa : Nat) (tp : Nat → Nat) (n : Nat) : Prop :=
  ((c.kd q).1 = 3) ∧
  (q < c.sz) ∧
  (c.lo ≤ q) ∧
  (c.fi 300 q = I n) ∧
  (c.fr 313 q = some o) ∧
  (CbR c o jn tpa) ∧
  (n ≤ 1000) ∧
  (∀ k, k < n → c.ai tpa k = sB (tp k)) ∧
  (∀ k, tp k < 256) ∧
  (CoR c)
theorem RdR.k {c : HC} {q o jn tpa : Nat} {tp : Nat → Nat} {n : Nat} (h9 : RdR c q o jn tpa tp n) : (c.kd q).1 = 3 := h9.1
theorem RdR.l {c : HC} {q o jn tpa : Nat} {tp : Nat → Nat} {n : Nat} (h9 : RdR c q o jn tpa tp n) : q < c.sz := h9.2.1
theorem RdR.b {c : HC} {q o jn tpa : Nat} {tp : Nat → Nat} {n : Nat} (h9 : RdR c q o jn tpa tp n) : c.lo ≤ q := h9.2.2.1
theorem RdR.s {c : HC} {q o jn tpa : Nat} {tp : Nat → Nat} {n : Nat} (h9 : RdR c q o jn tpa tp n) : c.fi 300 q = I n := h9.2.2.2.1
theorem RdR.u {c : HC} {q o jn tpa : Nat} {tp : Nat → Nat} {n : Nat} (h9 : RdR c q o jn tpa tp n) : c.fr 313 q = some o := h9.2.2.2.2.1
theorem RdR.B {c : HC} {q o jn tpa : Nat} {tp : Nat → Nat} {n : Nat} (h9 : RdR c q o jn tpa tp n) : CbR c o jn tpa := h9.2.2.2.2.2.1
theorem RdR.m {c : HC} {q o jn tpa : Nat} {tp : Nat → Nat} {n : Nat} (h9 : RdR c q o jn tpa tp n) : n ≤ 1000 := h9.2.2.2.2.2.2.1
theorem RdR.t {c : HC} {q o jn tpa : Nat} {tp : Nat → Nat} {n : Nat} (h9 : RdR c q o jn tpa tp n) : ∀ k, k < n → c.ai tpa k = sB (tp k) := h9.2.2.2.2.2.2.2.1
theorem RdR.y {c : HC} {q o jn tpa : Nat} {tp : Nat → Nat} {n : Nat} (h9 : RdR c q o jn tpa tp n) : ∀ k, tp k < 256 := h9.2.2.2.2.2.2.2.2.1
theorem RdR.z {c : HC} {q o jn tpa : Nat} {tp : Nat → Nat} {n : Nat} (h9 : RdR c q o jn tpa tp n) : CoR c := h9.2.2.2.2.2.2.2.2.2
def WRd (q : Nat) : Nat → Nat → Prop := fun f a => a = q ∧ (f = 301 ∨ f = 302 ∨ f = 305 ∨ f = 306 ∨ f = 307 ∨ f = 308)
theorem RdR.keep {W : Nat → Nat → Prop} {c c' : HC} (R : RdR c q o jn tpa tp n) (F : Fr W c c') (h1 : ¬ W 300 q) (h2 : ¬ W 313 q) (h3 : ¬ W 100 o) (h4 : ¬ W 101 o) (h5 : ¬ W 0 jn) (h6 : ¬ W 0 tpa) (hW : ∀ f a, W f a → c.lo ≤ a) : RdR c' q o jn tpa tp n :=
  ⟨by rw [F.kd q R.l]; exact R.k, Nat.lt_of_lt_of_le R.l F.sz, by have := R.b; unfold HC.lo at *; rw [F.bs]; exact this, by rw [F.fi 300 q R.l h1]; exact R.s, by rw [F.fr 313 q R.l h2]; exact R.u, R.B.keep F h3 h4 h5, R.m, by rw [F.ai tpa R.B.t3 h6]; exact R.t, R.y, R.z.keep F hW⟩
theorem RdR.nq {c : HC} (R : RdR c q o jn tpa tp n) : q ≠ o ∧ q ≠ jn ∧ q ≠ tpa := by
  have k3 := R.k
  have k1 := R.B.k
  have k2 := R.B.j2
  have k4 := R.B.t2
  refine ⟨fun e => ?_, fun e => ?_, fun e => ?_⟩
  · rw [e, k1] at k3; exact absurd k3 (by decide)
  · rw [e, k2] at k3; exact absurd k3 (by decide)
  · rw [e, k4] at k3; exact absurd k3 (by decide)
theorem RdR.go {c c' : HC} (R : RdR c q o jn tpa tp n) (F : Fr (WRd q) c c') : RdR c' q o jn tpa tp n := by
  obtain ⟨a1, a2, a3⟩ := R.nq
  refine R.keep F ?_ ?_ ?_ ?_ ?_ ?_ (fun f a hh => by rw [hh.1]; exact R.b)
  all_goals
    unfold WRd
    rintro ⟨h1, h2⟩
    first | omega | exact a1 h1.symm | exact a2 h1.symm | exact a3 h1.symm
theorem I_ge0 {x : Nat} (hx : x < 2147483648) {y : Int32} (hy : y < 0) : ¬ I x ≤ y := by
  intro hh
  have h1 := Int32.le_iff_toInt_le.1 hh
  have h2 := Int32.lt_iff_toInt_lt.1 hy
  rw [I_toInt hx] at h1
  have h3 : (0 : Int32).toInt = 0 := by decide
  omega
/-- whether a byte is there, and between. -/
def inB (tp : Nat → Nat) (n lo hi k : Nat) : Bool := decide (k < n) && (decide (lo ≤ tp k) && decide (tp k ≤ hi))
theorem px_isAt (R : RdR h.c q o jn tpa tp n) {k lo hi : Nat} (hk : k ≤ 1000) (hlo : lo < 128) (hhi : hi < 128) {Q : Int32 → AH → Prop} (hQ : Q (if inB tp n lo hi k then 1 else 0) h) : wp_X2_isAt q (I k) (I lo) (I hi) h Q := by
  have hm := R.m
  unfold wp_X2_isAt
  refine ⟨nn_of rfl R.k, ?_⟩
  rw [show h.fi 300 q = I n from R.s]
  unfold inB at hQ
  by_cases hn : n ≤ k
  · rw [decide_eq_false (by omega)] at hQ
    exact brT ((I_le (by omega) (by omega)).2 hn) hQ
  rw [decide_eq_true (by omega), Bool.true_and] at hQ
  refine brF (fun hh => hn ((I_le (by omega) (by omega)).1 hh)) ?_
  rw [show h.fr 313 q = some o from R.u]
  refine ⟨R.B.nn, ?_⟩
  rw [adr_some, show h.fr 101 o = some tpa from R.B.t1]
  refine ⟨ix_of rfl (show h.kd tpa = (41, 1000) from R.B.t2) (by omega) (by omega), ?_⟩
  rw [adr_some, I_ni (by omega), show h.ai tpa k = sB (tp k) from R.t k (by omega)]
  refine px_isIn (h := h.srm 0 0) ?_
  intro h6 e6
  have e6' : h6 = h := by rw [e6]; rfl
  rw [e6']
  intro m7 e7
  have hy := R.y k
  have key : (I lo ≤ sB (tp k) ∧ sB (tp k) ≤ I hi) ↔ (decide (lo ≤ tp k) && decide (tp k ≤ hi)) = true := by
    rw [Bool.and_eq_true, decide_eq_true_iff, decide_eq_true_iff]
    by_cases hb : tp k < 128
    · rw [sB_lo hb, I_le (by omega) (by omega), I_le (by omega) (by omega)]
    · constructor
      · rintro ⟨h1, _⟩
        exact absurd h1 (I_ge0 (by omega) (sB_hi (by omega) hy))
      · rintro ⟨_, h2⟩; omega
  by_cases hc : (decide (lo ≤ tp k) && decide (tp k ≤ hi)) = true
  · rw [if_pos (key.2 hc), if_neg (by decide)] at e7
    rw [if_pos hc] at hQ
    rw [e7]; exact ⟨.inr rfl, hQ⟩
  · rw [if_neg (fun hh => hc (key.1 hh)), if_pos rfl] at e7
    rw [if_neg hc] at hQ
    rw [e7]; exact ⟨.inl rfl, hQ⟩
theorem inB_dgt (k : Nat) : inB tp n 48 57 k = dgt tp n k := rfl
theorem inB_ltr (k : Nat) : inB tp n 97 122 k = ltr tp n k := rfl
theorem inB_spc (k : Nat) : (inB tp n 32 32 k || inB tp n 10 10 k) = spc tp n k := by
  unfold inB spc
  by_cases h1 : k < n
  · rw [decide_eq_true h1]
    simp only [Bool.true_and]
    have e : ∀ c, (decide (c ≤ tp k) && decide (tp k ≤ c)) = decide (tp k = c) := by
      intro c
      by_cases h2 : tp k = c
      · rw [h2]; simp
      · rw [decide_eq_false h2]
        by_cases h3 : c ≤ tp k
        · rw [decide_eq_false (show ¬ tp k ≤ c by omega), Bool.and_false]
        · rw [decide_eq_false h3, Bool.false_and]
    rw [e, e]
  · rw [decide_eq_false h1]; rfl
end
