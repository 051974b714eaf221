/-! plain: k1 -/
set_option maxRecDepth 100000
section
variable {h : AH} {o jn tpa : Nat} {X : AX}

/-- a byte as an array of bytes keeps it. -/
def sB (b : Nat) : Int32 := Int8.toInt32 (Int8.ofNat b)
theorem sB_lo {b : Nat} (hb : b < 128) : sB b = I b := by
  have key : ∀ b : Fin 128, sB b.1 = I b.1 := by decide +kernel
  exact key ⟨b, hb⟩
theorem sB_hi {b : Nat} (hb : 128 ≤ b) (hb2 : b < 256) : sB b < 0 := by
  have key : ∀ b : Fin 256, 128 ≤ b.1 → sB b.1 < 0 := by decide +kernel
  exact key ⟨b, hb2⟩ hb
theorem nar_byte (v : Int32) : vp_nar .byte (Int8.toInt32 (Int32.toInt8 v)) = Int8.toInt32 (Int32.toInt8 v) := by
  show Int8.toInt32 (Int32.toInt8 (Int8.toInt32 (Int32.toInt8 v))) = _
  simp
theorem byte_eq (w : Int32) {j : Nat} (hj : j < 4) : Int32.toInt8 (jshr w (I (24 - 8 * j))) = Int8.ofNat (byW w j) := by
  apply Int8.toBitVec_inj.1
  apply BitVec.eq_of_getLsbD_eq
  intro k hk
  have e1 : (Int32.toInt8 (jshr w (I (24 - 8 * j)))).toBitVec.getLsbD k = bt (jshr w (I (24 - 8 * j))) k := by
    rw [Int32.toBitVec_toInt8, BitVec.signExtend_eq_setWidth_of_le _ (by decide), BitVec.getLsbD_setWidth, decide_eq_true hk, Bool.true_and]
    rfl
  have e2 : (Int8.ofNat (byW w j)).toBitVec.getLsbD k = (byW w j).testBit k := by
    rw [show (Int8.ofNat (byW w j)).toBitVec = BitVec.ofNat 8 (byW w j) from rfl, BitVec.getLsbD_ofNat, decide_eq_true hk, Bool.true_and]
  rw [e1, e2, bt_shr _ (by omega) (by omega)]
  unfold byW
  rw [Nat.testBit_mod_two_pow, Nat.testBit_div_two_pow, decide_eq_true (show k < 8 by omega), Bool.true_and]
  unfold bt
  rw [Nat.add_comm]
  exact (BitVec.testBit_toNat _).symm

/-- the component's object: what joins, the tape. -/
def CbR (c : HC) (o jn tpa : Nat) : Prop :=
  ((c.kd o).1 = 1) ∧
  (o < c.sz) ∧
  (c.lo ≤ o) ∧
  (c.fr 100 o = some jn) ∧
  (c.kd jn = (45, 8)) ∧
  (jn < c.sz) ∧
  (∀ k, k < 8 → c.ar jn k = sref (c.cs (600 + k))) ∧
  (c.fr 101 o = some tpa) ∧
  (c.kd tpa = (41, 1000)) ∧
  (tpa < c.sz) ∧
  (c.lo ≤ tpa)
theorem CbR.k {c : HC} {o jn tpa : Nat} (h9 : CbR c o jn tpa) : (c.kd o).1 = 1 := h9.1
theorem CbR.l {c : HC} {o jn tpa : Nat} (h9 : CbR c o jn tpa) : o < c.sz := h9.2.1
theorem CbR.b {c : HC} {o jn tpa : Nat} (h9 : CbR c o jn tpa) : c.lo ≤ o := h9.2.2.1
theorem CbR.j1 {c : HC} {o jn tpa : Nat} (h9 : CbR c o jn tpa) : c.fr 100 o = some jn := h9.2.2.2.1
theorem CbR.j2 {c : HC} {o jn tpa : Nat} (h9 : CbR c o jn tpa) : c.kd jn = (45, 8) := h9.2.2.2.2.1
theorem CbR.j3 {c : HC} {o jn tpa : Nat} (h9 : CbR c o jn tpa) : jn < c.sz := h9.2.2.2.2.2.1
theorem CbR.j4 {c : HC} {o jn tpa : Nat} (h9 : CbR c o jn tpa) : ∀ k, k < 8 → c.ar jn k = sref (c.cs (600 + k)) := h9.2.2.2.2.2.2.1
theorem CbR.t1 {c : HC} {o jn tpa : Nat} (h9 : CbR c o jn tpa) : c.fr 101 o = some tpa := h9.2.2.2.2.2.2.2.1
theorem CbR.t2 {c : HC} {o jn tpa : Nat} (h9 : CbR c o jn tpa) : c.kd tpa = (41, 1000) := h9.2.2.2.2.2.2.2.2.1
theorem CbR.t3 {c : HC} {o jn tpa : Nat} (h9 : CbR c o jn tpa) : tpa < c.sz := h9.2.2.2.2.2.2.2.2.2.1
theorem CbR.t4 {c : HC} {o jn tpa : Nat} (h9 : CbR c o jn tpa) : c.lo ≤ tpa := h9.2.2.2.2.2.2.2.2.2.2
/-- the tape, the status, faults. -/
def CtR (c : HC) (o tpa : Nat) (X : AX) : Prop :=
  (c.fi 102 o = I X.m) ∧
  (∀ k, k < X.m → c.ai tpa k = sB (X.tp k)) ∧
  (c.fi 107 o = X.st) ∧
  (c.fi 108 o = X.fk) ∧
  (c.fi 109 o = X.fp)
theorem CtR.n {c : HC} {o tpa : Nat} {X : AX} (h9 : CtR c o tpa X) : c.fi 102 o = I X.m := h9.1
theorem CtR.tt {c : HC} {o tpa : Nat} {X : AX} (h9 : CtR c o tpa X) : ∀ k, k < X.m → c.ai tpa k = sB (X.tp k) := h9.2.1
theorem CtR.st {c : HC} {o tpa : Nat} {X : AX} (h9 : CtR c o tpa X) : c.fi 107 o = X.st := h9.2.2.1
theorem CtR.fk {c : HC} {o tpa : Nat} {X : AX} (h9 : CtR c o tpa X) : c.fi 108 o = X.fk := h9.2.2.2.1
theorem CtR.fp {c : HC} {o tpa : Nat} {X : AX} (h9 : CtR c o tpa X) : c.fi 109 o = X.fp := h9.2.2.2.2
theorem CbR.keep {W : Nat → Nat → Prop} {c c' : HC} (B : CbR c o jn tpa) (F : Fr W c c') (h1 : ¬ W 100 o) (h2 : ¬ W 101 o) (h3 : ¬ W 0 jn) : CbR c' o jn tpa :=
  ⟨by rw [F.kd o B.l]; exact B.k, Nat.lt_of_lt_of_le B.l F.sz, by have := B.b; unfold HC.lo at *; rw [F.bs]; exact this, by rw [F.fr 100 o B.l h1]; exact B.j1, by rw [F.kd jn B.j3]; exact B.j2, Nat.lt_of_lt_of_le B.j3 F.sz, by unfold HC.cs; rw [F.ar jn B.j3 h3, F.bs]; exact B.j4, by rw [F.fr 101 o B.l h2]; exact B.t1, by rw [F.kd tpa B.t3]; exact B.t2, Nat.lt_of_lt_of_le B.t3 F.sz, by have := B.t4; unfold HC.lo at *; rw [F.bs]; exact this⟩
theorem CbR.nn (B : CbR h.c o jn tpa) : nn h (some o) 1 := nn_of rfl B.k

def WF0 (o tpa : Nat) : Nat → Nat → Prop := fun f a => (f = 102 ∧ a = o) ∨ (f = 0 ∧ a = tpa)
theorem px_puts (B : CbR h.c o jn tpa) (Y : CtR h.c o tpa X) (hm : X.m + 4 ≤ 1000) {w : Int32} {Q : AH → Prop} (hQ : ∀ h', Fr (WF0 o tpa) h.c h'.c → CtR h'.c o tpa (fdA X w) → h'.rc = h.rc → h'.rs = h.rs → Q h') : wp_X0_puts o w h Q := by
  have hjt : jn ≠ tpa := fun e => by
    have := B.j2
    rw [e, B.t2] at this
    exact absurd (Prod.mk.inj this).1 (by decide)
  unfold wp_X0_puts
  refine xlp_cnt 4 (fun k s U => Fr (WF0 o tpa) h.c U.c ∧ U.fi 102 o = I (X.m + k) ∧ (∀ i, i < X.m + k → U.ai tpa i = sB (if i < X.m then X.tp i else byW w (i - X.m))) ∧ U.rc = h.rc ∧ U.rs = h.rs ∧ s = (if k < 4 then I (24 - 8 * k) else -8)) ⟨Fr.refl _, Y.n, fun i hi => by rw [if_pos (by omega)]; exact Y.tt i (by omega), rfl, rfl, by decide⟩ ?_
  intro k s U K hk hh hK
  obtain ⟨F, e1, e2, r1, r2, e3⟩ := hh
  have BU := B.keep F (by unfold WF0; omega) (by unfold WF0; omega) (by unfold WF0; omega)
  rw [e3]
  by_cases e4 : k = 4
  · subst e4
    rw [if_neg (by decide)]
    refine brT (by decide) (hQ U F ⟨e1, fun i hi => e2 i hi, ?_, ?_, ?_⟩ r1 r2)
    · show U.fi 107 o = X.st
      rw [show U.fi 107 o = h.fi 107 o from F.fi 107 o B.l (by unfold WF0; omega)]; exact Y.st
    · show U.fi 108 o = X.fk
      rw [show U.fi 108 o = h.fi 108 o from F.fi 108 o B.l (by unfold WF0; omega)]; exact Y.fk
    · show U.fi 109 o = X.fp
      rw [show U.fi 109 o = h.fi 109 o from F.fi 109 o B.l (by unfold WF0; omega)]; exact Y.fp
  have hk4 : k < 4 := by omega
  rw [if_pos hk4]
  refine brF (I_nonneg (by omega)) ⟨BU.nn, ?_⟩
  have et : U.fr 101 o = some tpa := BU.t1
  have ek : U.kd tpa = (41, 1000) := BU.t2
  rw [et, e1]
  refine ⟨ix_of rfl ek (by omega) (by omega), BU.t4, ?_⟩
  rw [adr_some, I_ni (by omega), nar_byte, byte_eq w hk4]
  intro U1 h1 U2 h2
  have e5 : U1.fi 102 o = I (X.m + k) := by rw [h1]; exact e1
  rw [e5, show I (X.m + k) + 1 = I (X.m + (k + 1)) from I_add _ 1] at h2
  have F1 : Fr (WF0 o tpa) h.c U1.c := by rw [h1]; exact F.sai _ _ (fun _ => .inr ⟨rfl, rfl⟩)
  have F2 : Fr (WF0 o tpa) h.c U2.c := by rw [h2]; exact F1.sfi _ (fun _ => .inl ⟨rfl, rfl⟩)
  refine hK _ _ hk4 ⟨F2, by rw [h2, sfi_same], fun i hi => ?_, by rw [h2, h1]; exact r1, by rw [h2, h1]; exact r2, ?_⟩
  · have e6 : U2.ai tpa = updN (U.ai tpa) (X.m + k) (sB (byW w k)) := by rw [h2]; show U1.ai tpa = _; rw [h1, sai_ai, if_pos rfl]; rfl
    rw [e6]
    by_cases ei : i = X.m + k
    · rw [ei, updN_same, if_neg (by omega), show X.m + k - X.m = k by omega]
    · rw [updN_ne _ _ ei]; exact e2 i (by omega)
  · rcases (show k = 0 ∨ k = 1 ∨ k = 2 ∨ k = 3 by omega) with e | e | e | e <;> subst e <;> decide

theorem px_feed (B : CbR h.c o jn tpa) (Y : CtR h.c o tpa X) (hX : X.m ≤ 1000) {a b c d e : Int32} {Q : Int32 → AH → Prop} (hQ : ∀ h', Fr (WF0 o tpa) h.c h'.c → CtR h'.c o tpa (xFeed X a b c d e) → h'.rc = h.rc → h'.rs = h.rs → Q (qFeed X) h') : wp_X0_feed o a b c d e h Q := by
  have hjt : jn ≠ tpa := fun e => by
    have := B.j2
    rw [e, B.t2] at this
    exact absurd (Prod.mk.inj this).1 (by decide)
  unfold wp_X0_feed
  refine ⟨B.nn, ?_⟩
  rw [show h.fi 102 o = I X.m from Y.n]
  unfold xFeed qFeed at hQ
  by_cases hh : X.m + 20 ≤ 1000
  rotate_left
  · rw [if_neg hh, if_neg hh] at hQ
    exact brF (by (first | omega | ((try simp (disch := omega) only [L_le, le_L, L_lt, lt_L, eq_L, L_eq, I_le, I_lt, I_eq, I_ni, add_L, L_add, I_add, mul_L, L_mul, I_mul, sub_L, L_sub, I_sub, div_L, rem_L]); done) | ((try simp (disch := omega) only [L_le, le_L, L_lt, lt_L, eq_L, L_eq, I_le, I_lt, I_eq, I_ni, add_L, L_add, I_add, mul_L, L_mul, I_mul, sub_L, L_sub, I_sub, div_L, rem_L]); omega))) (hQ h (Fr.refl _) Y rfl rfl)
  rw [if_pos hh, if_pos hh] at hQ
  refine brT (by (first | omega | ((try simp (disch := omega) only [L_le, le_L, L_lt, lt_L, eq_L, L_eq, I_le, I_lt, I_eq, I_ni, add_L, L_add, I_add, mul_L, L_mul, I_mul, sub_L, L_sub, I_sub, div_L, rem_L]); done) | ((try simp (disch := omega) only [L_le, le_L, L_lt, lt_L, eq_L, L_eq, I_le, I_lt, I_eq, I_ni, add_L, L_add, I_add, mul_L, L_mul, I_mul, sub_L, L_sub, I_sub, div_L, rem_L]); omega))) ?_
  have BK : ∀ {h' : AH}, Fr (WF0 o tpa) h.c h'.c → CbR h'.c o jn tpa := fun F => B.keep F (by unfold WF0; omega) (by unfold WF0; omega) (by unfold WF0; omega)
  have step : ∀ {X' : AX} {U : AH} {w : Int32} {P : AH → Prop}, Fr (WF0 o tpa) h.c U.c → CtR U.c o tpa X' → U.rc = h.rc → U.rs = h.rs → X'.m + 4 ≤ 1000 → (∀ V : AH, Fr (WF0 o tpa) h.c V.c → CtR V.c o tpa (fdA X' w) → V.rc = h.rc → V.rs = h.rs → P V) → wp_X0_puts o w (U.srm 0 0) (fun h4 => ∀ h5, h5 = h4.srm U.rc U.rs → P h5) := by
    intro X' U w P F Y' c1 c2 hm hP
    refine px_puts (h := U.srm 0 0) (jn := jn) (by exact BK F) Y' hm ?_
    intro V FV YV _ _ V2 hV2
    rw [hV2]
    exact hP _ (F.trans FV) YV c1 c2
  refine step (Fr.refl _) Y rfl rfl (by omega) ?_
  intro U1 F1 Y1 c1 s1
  refine ⟨(BK F1).nn, step F1 Y1 c1 s1 (by rw [fdA_m]; omega) ?_⟩
  intro U2 F2 Y2 c2 s2
  refine ⟨(BK F2).nn, step F2 Y2 c2 s2 (by rw [fdA_m, fdA_m]; omega) ?_⟩
  intro U3 F3 Y3 c3 s3
  refine ⟨(BK F3).nn, step F3 Y3 c3 s3 (by rw [fdA_m, fdA_m, fdA_m]; omega) ?_⟩
  intro U4 F4 Y4 c4 s4
  refine ⟨(BK F4).nn, step F4 Y4 c4 s4 (by rw [fdA_m, fdA_m, fdA_m, fdA_m]; omega) ?_⟩
  intro U5 F5 Y5 c5 s5
  refine ⟨(BK F5).nn, ?_⟩
  have e9 : U5.fi 102 o = I (X.m + 20) := by rw [show U5.fi 102 o = _ from Y5.n, fdA_m, fdA_m, fdA_m, fdA_m, fdA_m]
  rw [e9]
  exact hQ U5 F5 Y5 c5 s5
theorem px_status (B : CbR h.c o jn tpa) (Y : CtR h.c o tpa X) {Q : Int32 → AH → Prop} (hQ : Q X.st h) : wp_X0_status o h Q := ⟨B.nn, by rw [show h.fi 107 o = X.st from Y.st]; exact hQ⟩
theorem px_fault (B : CbR h.c o jn tpa) (Y : CtR h.c o tpa X) {x : Int32} {Q : Int32 → AH → Prop} (hQ : Q (if x = 0 then X.fk else if x = 1 then X.fp else -1) h) : wp_X0_fault o x h Q := by
  unfold wp_X0_fault
  by_cases h0 : x = 0
  · rw [if_pos h0] at hQ
    exact brT h0 ⟨B.nn, by rw [show h.fi 108 o = X.fk from Y.fk]; exact hQ⟩
  · rw [if_neg h0] at hQ
    refine brF h0 ?_
    by_cases h1 : x = 1
    · rw [if_pos h1] at hQ
      exact brT h1 ⟨B.nn, by rw [show h.fi 109 o = X.fp from Y.fp]; exact hQ⟩
    · rw [if_neg h1] at hQ
      exact brF h1 hQ

def WSt (o : Nat) : Nat → Nat → Prop := fun f a => f = 107 ∧ a = o
theorem CtR.ws {h' : AH} (Y : CtR h.c o tpa X) (v : Int32) (e : h' = h.sfi 107 o v) : CtR h'.c o tpa (X.ws v) := by
  subst e
  exact ⟨(sfi_ne h (F := 107) o v o (by decide)).trans Y.n, Y.tt, sfi_same h 107 o v, (sfi_ne h (F := 107) o v o (by decide)).trans Y.fk, (sfi_ne h (F := 107) o v o (by decide)).trans Y.fp⟩
theorem px_can (B : CbR h.c o jn tpa) (Y : CtR h.c o tpa X) {v : Int32} {Q : Int32 → AH → Prop} (hQ : ∀ h', Fr (WSt o) h.c h'.c → CtR h'.c o tpa (X.ws v) → h'.rc = h.rc → h'.rs = h.rs → Q (if v = 0 then 1 else 0) h') : wp_X0_can o v h Q := by
  refine ⟨B.nn, ?_⟩
  intro h2 e2 m hm
  rw [hm]
  refine ⟨?_, hQ h2 (by rw [e2]; exact (Fr.refl _).sfi _ (fun _ => ⟨rfl, rfl⟩)) (Y.ws v e2) (by rw [e2]; rfl) (by rw [e2]; rfl)⟩
  by_cases h0 : v = 0
  · rw [if_pos h0]; exact .inr rfl
  · rw [if_neg h0]; exact .inl rfl
theorem px_none (B : CbR h.c o jn tpa) (Y : CtR h.c o tpa X) {v : Int32} {Q : Int32 → AH → Prop} (hQ : ∀ h', Fr (WSt o) h.c h'.c → CtR h'.c o tpa (X.ws v) → h'.rc = h.rc → h'.rs = h.rs → Q (-1) h') : wp_X0_none o v h Q := by
  refine ⟨B.nn, ?_⟩
  intro h2 e2
  exact hQ h2 (by rw [e2]; exact (Fr.refl _).sfi _ (fun _ => ⟨rfl, rfl⟩)) (Y.ws v e2) (by rw [e2]; rfl) (by rw [e2]; rfl)
end
