/-! plain: cn4 -/
set_option maxRecDepth 100000
section
variable {G : Gv} {T : Tv} {L : GA} {A : TA} {x o : Nat} {B : IA}

theorem TjL.monoD {V E gr i s0 s} {D D' : Nat → Prop} (X : TjL V E gr i D s0 s) (h : ∀ w, D' w → D w) : TjL V E gr i D' s0 s :=
  ⟨X.I, X.o, X.lw, X.k, X.ip, X.n, X.pd, X.pl, X.pi, X.kts, X.w0, X.gb, X.b0, X.oi, X.ii, fun w e d => X.l1 w e (h w d), X.l2, X.l2b, fun v w a b c d e => X.l3 v w a b c d (fun f => h w (e f))⟩
theorem TjL.full {V E gr i s0 s} {D : Nat → Prop} (X : TjL V E gr i D s0 s) (h : ∀ w, E i w → D w) : TjL V E gr i (fun _ => True) s0 s :=
  ⟨X.I, X.o, X.lw, X.k, X.ip, X.n, X.pd, X.pl, X.pi, X.kts, X.w0, X.gb, X.b0, X.oi, X.ii, fun w e _ => X.l1 w e (h w e), X.l2, X.l2b, fun v w a b c d _ => X.l3 v w a b c d (fun f => h w (f ▸ d))⟩

theorem unv_push {s : TjS} {i : Nat} (hi : i < 320) (h0 : s.ord i = 0) : unv (tjpush s i) < unv s := by
  refine filt_lt _ _ _ (fun v _ hv => ?_) ⟨i, by simpa using hi, by simpa using h0, ?_⟩
  · have hv' : (tjpush s i).ord v = 0 := of_decide_eq_true hv
    refine decide_eq_true ?_
    by_cases e : v = i
    · rw [e]; exact h0
    · rw [tjpush_ord] at hv'
      rw [← hv']; exact (if_neg e).symm
  · intro hh
    have hv' : (tjpush s i).ord i = 0 := of_decide_eq_true hh
    rw [tjpush_ord] at hv'
    have : (if i = i then s.met + 1 else s.ord i) = 0 := hv'
    rw [if_pos rfl] at this
    omega
theorem unv_le {s s' : TjS} (h : ∀ v, s.ord v ≠ 0 → s'.ord v = s.ord v) : unv s' ≤ unv s := by
  refine filt_le _ _ _ (fun v _ hv => ?_)
  simp only [decide_eq_true_eq] at hv ⊢
  exact Classical.byContradiction fun hn => hn (by rw [h v hn] at hv; exact hv)

theorem px_lesser {h : AH} {a b : Nat} (ha : a < 2147483648) (hb : b < 2147483648) {Q : Int32 → AH → Prop} (hQ : Q (I (min a b)) h) : wp_X0_lesser (I a) (I b) h Q := by
  intro m hm
  have : m = I (min a b) := by
    rw [hm]
    by_cases e : b ≤ a
    · rw [if_pos ((I_le hb ha).2 e), Nat.min_eq_right e]
    · rw [if_neg (fun hh => e ((I_le hb ha).1 hh)), Nat.min_eq_left (by omega)]
  rw [this]; exact hQ

/-- rows of instances differ by their kind. -/
theorem IxR.d5 {c : HC} (Y : IxR c o B) : B.kn ≠ B.ip ∧ B.od ≠ B.ip ∧ B.lw ≠ B.ip ∧ B.pi ≠ B.ip ∧ B.kn ≠ B.ik ∧ B.od ≠ B.ik ∧ B.lw ≠ B.ik ∧ B.pi ≠ B.ik :=
  ⟨fun e => by have := Y.k1; rw [e, Y.k5] at this; exact absurd (Prod.mk.inj this).1 (by decide), fun e => by have := Y.k2; rw [e, Y.k5] at this; exact absurd (Prod.mk.inj this).1 (by decide),
   fun e => by have := Y.k3; rw [e, Y.k5] at this; exact absurd (Prod.mk.inj this).1 (by decide), fun e => by have := Y.k4; rw [e, Y.k5] at this; exact absurd (Prod.mk.inj this).1 (by decide),
   fun e => by have := Y.k1; rw [e, Y.k6] at this; exact absurd (Prod.mk.inj this).1 (by decide), fun e => by have := Y.k2; rw [e, Y.k6] at this; exact absurd (Prod.mk.inj this).1 (by decide),
   fun e => by have := Y.k3; rw [e, Y.k6] at this; exact absurd (Prod.mk.inj this).1 (by decide), fun e => by have := Y.k4; rw [e, Y.k6] at this; exact absurd (Prod.mk.inj this).1 (by decide)⟩

/-- a new low. -/
theorem TjR.low {h : AH} {m i y : Nat} {s : TjS} (R : TjR h.c o B m s) (Y : IxR h.c o B) (hi : i < 320) : TjR (h.sai B.lw i (I y)).c o B m (tjlow s i y) := by
  obtain ⟨d15, d25, d35, d45, d16, d26, d36, d46⟩ := Y.d5
  have ax : ∀ b, b ≠ B.lw → (h.sai B.lw i (I y)).c.ai b = h.ai b := fun b hb => by
    show (h.sai B.lw i (I y)).ai b = _
    rw [sai_ai, if_neg hb]
  refine ⟨fun v hv => ?_, fun v hv => ?_, fun k hk => ?_, fun v hv => ?_, fun v hv => ?_, fun k hk => ?_, R.n1, R.n2, R.n3⟩
  · rw [ax _ Y.d23]; exact R.od v hv
  · show (h.sai B.lw i (I y)).ai B.lw v = I (if v = i then y else s.low v)
    rw [sai_ai, if_pos rfl]
    by_cases e : v = i
    · rw [e, updN_same, if_pos rfl]
    · rw [updN_ne _ _ e, if_neg e]; exact R.lw v hv
  · rw [ax _ Y.d34.symm]; exact R.pi k hk
  · rw [ax _ d35.symm]; exact R.ip v hv
  · rw [ax _ Y.d13]; exact R.kn v hv
  · rw [ax _ d36.symm]; exact R.ik k hk

/-- the rows and numbers of a walk, as they lie. -/
def TjV (c : HC) (o : Nat) (B : IA) (od lw pi ip kn ik : Nat → Int32) (a7 a8 a9 : Int32) : Prop :=
  (c.ai B.od = od) ∧
  (c.ai B.lw = lw) ∧
  (c.ai B.pi = pi) ∧
  (c.ai B.ip = ip) ∧
  (c.ai B.kn = kn) ∧
  (c.ai B.ik = ik) ∧
  (c.fi 1707 o = a7) ∧
  (c.fi 1708 o = a8) ∧
  (c.fi 1709 o = a9)
theorem TjV.od {c : HC} {o : Nat} {B : IA} {od lw pi ip kn ik : Nat → Int32} {a7 a8 a9 : Int32} (h9 : TjV c o B od lw pi ip kn ik a7 a8 a9) : c.ai B.od = od := h9.1
theorem TjV.lw {c : HC} {o : Nat} {B : IA} {od lw pi ip kn ik : Nat → Int32} {a7 a8 a9 : Int32} (h9 : TjV c o B od lw pi ip kn ik a7 a8 a9) : c.ai B.lw = lw := h9.2.1
theorem TjV.pi {c : HC} {o : Nat} {B : IA} {od lw pi ip kn ik : Nat → Int32} {a7 a8 a9 : Int32} (h9 : TjV c o B od lw pi ip kn ik a7 a8 a9) : c.ai B.pi = pi := h9.2.2.1
theorem TjV.ip {c : HC} {o : Nat} {B : IA} {od lw pi ip kn ik : Nat → Int32} {a7 a8 a9 : Int32} (h9 : TjV c o B od lw pi ip kn ik a7 a8 a9) : c.ai B.ip = ip := h9.2.2.2.1
theorem TjV.kn {c : HC} {o : Nat} {B : IA} {od lw pi ip kn ik : Nat → Int32} {a7 a8 a9 : Int32} (h9 : TjV c o B od lw pi ip kn ik a7 a8 a9) : c.ai B.kn = kn := h9.2.2.2.2.1
theorem TjV.ik {c : HC} {o : Nat} {B : IA} {od lw pi ip kn ik : Nat → Int32} {a7 a8 a9 : Int32} (h9 : TjV c o B od lw pi ip kn ik a7 a8 a9) : c.ai B.ik = ik := h9.2.2.2.2.2.1
theorem TjV.a7 {c : HC} {o : Nat} {B : IA} {od lw pi ip kn ik : Nat → Int32} {a7 a8 a9 : Int32} (h9 : TjV c o B od lw pi ip kn ik a7 a8 a9) : c.fi 1707 o = a7 := h9.2.2.2.2.2.2.1
theorem TjV.a8 {c : HC} {o : Nat} {B : IA} {od lw pi ip kn ik : Nat → Int32} {a7 a8 a9 : Int32} (h9 : TjV c o B od lw pi ip kn ik a7 a8 a9) : c.fi 1708 o = a8 := h9.2.2.2.2.2.2.2.1
theorem TjV.a9 {c : HC} {o : Nat} {B : IA} {od lw pi ip kn ik : Nat → Int32} {a7 a8 a9 : Int32} (h9 : TjV c o B od lw pi ip kn ik a7 a8 a9) : c.fi 1709 o = a9 := h9.2.2.2.2.2.2.2.2

theorem sai_at (h : AH) (a i : Nat) (v : Int32) : (h.sai a i v).c.ai a = updN (h.ai a) i v := by
  show (h.sai a i v).ai a = _
  rw [sai_ai, if_pos rfl]
theorem sai_no (h : AH) {a : Nat} (i : Nat) (v : Int32) {b : Nat} (hb : b ≠ a) : (h.sai a i v).c.ai b = h.c.ai b := by
  show (h.sai a i v).ai b = _
  rw [sai_ai, if_neg hb]; rfl

theorem TjV.sod {h : AH} {od lw pi ip kn ik a7 a8 a9} (X : TjV h.c o B od lw pi ip kn ik a7 a8 a9) {c0 : HC} (Y : IxR c0 o B) (i : Nat) (v : Int32) : TjV (h.sai B.od i v).c o B (updN od i v) lw pi ip kn ik a7 a8 a9 := by
  obtain ⟨d15, d25, d35, d45, d16, d26, d36, d46⟩ := Y.d5
  exact ⟨by rw [sai_at]; exact congrArg (updN · i v) X.od, by rw [sai_no _ _ _ Y.d23.symm]; exact X.lw, by rw [sai_no _ _ _ Y.d24.symm]; exact X.pi, by rw [sai_no _ _ _ d25.symm]; exact X.ip, by rw [sai_no _ _ _ Y.d12]; exact X.kn, by rw [sai_no _ _ _ d26.symm]; exact X.ik, X.a7, X.a8, X.a9⟩
theorem TjV.slw {h : AH} {od lw pi ip kn ik a7 a8 a9} (X : TjV h.c o B od lw pi ip kn ik a7 a8 a9) {c0 : HC} (Y : IxR c0 o B) (i : Nat) (v : Int32) : TjV (h.sai B.lw i v).c o B od (updN lw i v) pi ip kn ik a7 a8 a9 := by
  obtain ⟨d15, d25, d35, d45, d16, d26, d36, d46⟩ := Y.d5
  exact ⟨by rw [sai_no _ _ _ Y.d23]; exact X.od, by rw [sai_at]; exact congrArg (updN · i v) X.lw, by rw [sai_no _ _ _ Y.d34.symm]; exact X.pi, by rw [sai_no _ _ _ d35.symm]; exact X.ip, by rw [sai_no _ _ _ Y.d13]; exact X.kn, by rw [sai_no _ _ _ d36.symm]; exact X.ik, X.a7, X.a8, X.a9⟩
theorem TjV.spi {h : AH} {od lw pi ip kn ik a7 a8 a9} (X : TjV h.c o B od lw pi ip kn ik a7 a8 a9) {c0 : HC} (Y : IxR c0 o B) (i : Nat) (v : Int32) : TjV (h.sai B.pi i v).c o B od lw (updN pi i v) ip kn ik a7 a8 a9 := by
  obtain ⟨d15, d25, d35, d45, d16, d26, d36, d46⟩ := Y.d5
  exact ⟨by rw [sai_no _ _ _ Y.d24]; exact X.od, by rw [sai_no _ _ _ Y.d34]; exact X.lw, by rw [sai_at]; exact congrArg (updN · i v) X.pi, by rw [sai_no _ _ _ d45.symm]; exact X.ip, by rw [sai_no _ _ _ Y.d14]; exact X.kn, by rw [sai_no _ _ _ d46.symm]; exact X.ik, X.a7, X.a8, X.a9⟩
theorem TjV.sip {h : AH} {od lw pi ip kn ik a7 a8 a9} (X : TjV h.c o B od lw pi ip kn ik a7 a8 a9) {c0 : HC} (Y : IxR c0 o B) (i : Nat) (v : Int32) : TjV (h.sai B.ip i v).c o B od lw pi (updN ip i v) kn ik a7 a8 a9 := by
  obtain ⟨d15, d25, d35, d45, d16, d26, d36, d46⟩ := Y.d5
  exact ⟨by rw [sai_no _ _ _ d25]; exact X.od, by rw [sai_no _ _ _ d35]; exact X.lw, by rw [sai_no _ _ _ d45]; exact X.pi, by rw [sai_at]; exact congrArg (updN · i v) X.ip, by rw [sai_no _ _ _ d15]; exact X.kn, by rw [sai_no _ _ _ Y.d56.symm]; exact X.ik, X.a7, X.a8, X.a9⟩
theorem TjV.s8 {h : AH} {od lw pi ip kn ik a7 a8 a9} (X : TjV h.c o B od lw pi ip kn ik a7 a8 a9) (v : Int32) : TjV (h.sfi 1708 o v).c o B od lw pi ip kn ik a7 v a9 :=
  ⟨X.od, X.lw, X.pi, X.ip, X.kn, X.ik, by rw [pc_fi, sfi_ne _ _ _ _ (by decide)]; exact X.a7, sfi_same _ _ _ _, by rw [pc_fi, sfi_ne _ _ _ _ (by decide)]; exact X.a9⟩
theorem TjV.s9 {h : AH} {od lw pi ip kn ik a7 a8 a9} (X : TjV h.c o B od lw pi ip kn ik a7 a8 a9) (v : Int32) : TjV (h.sfi 1709 o v).c o B od lw pi ip kn ik a7 a8 v :=
  ⟨X.od, X.lw, X.pi, X.ip, X.kn, X.ik, by rw [pc_fi, sfi_ne _ _ _ _ (by decide)]; exact X.a7, by rw [pc_fi, sfi_ne _ _ _ _ (by decide)]; exact X.a8, sfi_same _ _ _ _⟩

theorem TjV.push {c : HC} {m i : Nat} {s : TjS} {od lw pi ip kn ik : Nat → Int32} {c1 : HC} (R : TjR c1 o B m s) (X1 : TjV c1 o B od lw pi ip kn ik (I s.kts) (I s.pd) (I s.met)) (k0 : s.kn i = none)
    (X : TjV c o B (updN od i (I (s.met + 1))) (updN lw i (I (s.met + 1))) (updN pi s.pd (I i)) (updN ip i 1) kn ik (I s.kts) (I (s.pd + 1)) (I (s.met + 1))) : TjR c o B m (tjpush s i) := by
  refine ⟨fun v hv => ?_, fun v hv => ?_, fun k hk => ?_, fun v hv => ?_, fun v hv => ?_, fun k hk => ?_, X.a7, X.a8, X.a9⟩
  · rw [X.od]
    show _ = I (if v = i then s.met + 1 else s.ord v)
    by_cases e : v = i
    · rw [e, updN_same, if_pos rfl]
    · rw [updN_ne _ _ e, if_neg e, ← X1.od]; exact R.od v hv
  · rw [X.lw]
    show _ = I (if v = i then s.met + 1 else s.low v)
    by_cases e : v = i
    · rw [e, updN_same, if_pos rfl]
    · rw [updN_ne _ _ e, if_neg e, ← X1.lw]; exact R.lw v hv
  · rw [X.pi]
    show _ = I (if k = s.pd then i else s.pile k)
    replace hk : k < s.pd + 1 := hk
    by_cases e : k = s.pd
    · rw [e, updN_same, if_pos rfl]
    · rw [updN_ne _ _ e, if_neg e, ← X1.pi]; exact R.pi k (by omega)
  · rw [X.ip]
    show _ = if (if v = i then s.met + 1 else s.ord v) ≠ 0 ∧ s.kn v = none then 1 else 0
    by_cases e : v = i
    · have c1 : (if v = i then s.met + 1 else s.ord v) ≠ 0 ∧ s.kn v = none := by rw [if_pos e]; exact ⟨by omega, by rw [e]; exact k0⟩
      rw [if_pos c1, e, updN_same]
    · rw [updN_ne _ _ e, ← X1.ip, R.ip v hv]
      rw [show (if v = i then s.met + 1 else s.ord v) = s.ord v from if_neg e]
  · rw [X.kn, ← X1.kn]; exact R.kn v hv
  · rw [X.ik, ← X1.ik]; exact R.ik k hk
end
