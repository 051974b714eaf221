/-! plain: k5 -/
set_option maxRecDepth 100000
section
variable {h : AH} {s v : Nat}

/-- a string that grows, of one wide sign. -/
def SuR (c : HC) (s v : Nat) : Prop :=
  ((c.kd s).1 = 21) ∧
  (s < c.sz) ∧
  (c.fr 2100 s = some v) ∧
  (c.kd v = (41, 32)) ∧
  (v < c.sz) ∧
  (∀ i, i < 2 → fits .byte (.int (c.ai v i)) = true) ∧
  (c.fi 2101 s = 1) ∧
  (c.fi 2102 s = 0) ∧
  (c.fi 2103 s = I 1)
theorem SuR.k {c : HC} {s v : Nat} (h9 : SuR c s v) : (c.kd s).1 = 21 := h9.1
theorem SuR.l {c : HC} {s v : Nat} (h9 : SuR c s v) : s < c.sz := h9.2.1
theorem SuR.vr {c : HC} {s v : Nat} (h9 : SuR c s v) : c.fr 2100 s = some v := h9.2.2.1
theorem SuR.vk {c : HC} {s v : Nat} (h9 : SuR c s v) : c.kd v = (41, 32) := h9.2.2.2.1
theorem SuR.vl {c : HC} {s v : Nat} (h9 : SuR c s v) : v < c.sz := h9.2.2.2.2.1
theorem SuR.vv {c : HC} {s v : Nat} (h9 : SuR c s v) : ∀ i, i < 2 → fits .byte (.int (c.ai v i)) = true := h9.2.2.2.2.2.1
theorem SuR.co {c : HC} {s v : Nat} (h9 : SuR c s v) : c.fi 2101 s = 1 := h9.2.2.2.2.2.2.1
theorem SuR.ml {c : HC} {s v : Nat} (h9 : SuR c s v) : c.fi 2102 s = 0 := h9.2.2.2.2.2.2.2.1
theorem SuR.n {c : HC} {s v : Nat} (h9 : SuR c s v) : c.fi 2103 s = I 1 := h9.2.2.2.2.2.2.2.2
theorem SuR.keep {W : Nat → Nat → Prop} {c c' : HC} (S : SuR c s v) (F : Fr W c c') (h1 : ¬ W 2100 s) (h2 : ¬ W 2101 s) (h5 : ¬ W 2102 s) (h3 : ¬ W 2103 s) (h4 : ¬ W 0 v) : SuR c' s v :=
  ⟨by rw [F.kd s S.l]; exact S.k, Nat.lt_of_lt_of_le S.l F.sz, by rw [F.fr 2100 s S.l h1]; exact S.vr, by rw [F.kd v S.vl]; exact S.vk, Nat.lt_of_lt_of_le S.vl F.sz, by rw [F.ai v S.vl h4]; exact S.vv, by rw [F.fi 2101 s S.l h2]; exact S.co, by rw [F.fi 2102 s S.l h5]; exact S.ml, by rw [F.fi 2103 s S.l h3]; exact S.n⟩
theorem fits_nar (x : Int32) : fits .byte (.int (vp_nar .byte x)) = true := by
  have key : ∀ b : Fin 256, fits .byte (.int (Int8.toInt32 (Int8.ofNat b.1))) = true := by decide +kernel
  have e : vp_nar .byte x = Int8.toInt32 (Int8.ofNat (Int32.toInt8 x).toBitVec.toNat) := by
    show Int8.toInt32 (Int32.toInt8 x) = _
    congr 1
    apply Int8.toBitVec_inj.1
    show _ = BitVec.ofNat 8 _
    rw [BitVec.ofNat_toNat, BitVec.setWidth_eq]
  rw [e]
  exact key ⟨_, (Int32.toInt8 x).toBitVec.isLt⟩
def WSu (s : Nat) : Nat → Nat → Prop := fun f a => (f = 2100 ∨ f = 2101 ∨ f = 2103) ∧ a = s

theorem pc_appendHi (S : SbR h.c s v []) (ml : h.fi 2102 s = 0) (hlo : h.lo ≤ h.sz) {p : Int32} (hp : 255 < p) (hr : 1 ≤ h.rc) (hs : 32 ≤ h.rs) {Q : Option Nat → AH → Prop} (hQ : ∀ h', Fr (WSu s) h.c h'.c → SuR h'.c s h.sz → h'.sz = h.sz + 1 → h'.rc = h.rc - 1 → h'.rs = h.rs - 32 → Q (some s) h') : wp_J1_append s p h Q := by
  have k1 : h.kd v = (41, 16) := S.vk
  have vr : h.fr 2100 s = some v := S.vr
  have co : h.fi 2101 s = 0 := S.co
  have n : h.fi 2103 s = 0 := S.n
  have hsl : s < h.sz := S.l
  unfold wp_J1_append
  refine ⟨nn_of rfl S.k, 1, 32, ⟨hr, hs⟩, ?_⟩
  dsimp only
  unfold wp_J0_append
  refine ⟨nn_of rfl S.k, 0, 0, ⟨Nat.zero_le _, Nat.zero_le _⟩, ?_⟩
  dsimp only
  unfold wp_J0_ensureCapacityInternal
  rw [show (((h.srm 1 32).srm 0 0).fr 2100 s) = some v from vr, show (((h.srm 1 32).srm 0 0).fi 2101 s) = 0 from co, show ((h.srm 1 32).fi 2103 s) = 0 from n]
  have kd1 : ((h.srm 1 32).srm 0 0).kd v = (41, 16) := k1
  refine ⟨nn_of rfl S.k, nn_of rfl (by rw [kd1]), ?_⟩
  rw [adr_some, kd1]
  refine brT (show ((0 : Int32) + 1) - (jshr (nI 16) 0) ≤ 0 by decide) ?_
  intro h4 e4
  have e4' : h4 = h.srm 1 32 := by rw [e4]; rfl
  rw [e4']
  refine ⟨nn_of rfl S.k, nn_of rfl S.k, ?_⟩
  intro m2 e2
  rw [show (((h.srm 1 32).srm 0 0).fi 2101 s) = 0 from co, if_pos rfl] at e2
  rw [e2]
  refine ⟨.inr rfl, ?_⟩
  intro h11 e11
  have e11' : h11 = h.srm 1 32 := by rw [e11]; rfl
  rw [e11']
  refine brF (by decide) ?_
  intro m1 e1
  rw [if_pos hp] at e1
  rw [e1]
  refine ⟨.inl rfl, ?_⟩
  intro h39 e39
  have e39' : h39 = h.srm 1 32 := by rw [e39]; rfl
  rw [e39']
  refine brT rfl ⟨nn_of rfl S.k, nn_of rfl S.k, ?_⟩
  intro m3 e3
  rw [show (((h.srm 1 32).srm 0 0).fi 2101 s) = 0 from co, if_pos rfl] at e3
  rw [e3]
  refine ⟨.inr rfl, ?_⟩
  intro h44 e44
  have e44' : h44 = h.srm 1 32 := by rw [e44]; rfl
  rw [e44']
  -- it is made wide
  refine ⟨fun _ U => Fr (WSu s) h.c U.c ∧ U.fr 2100 s = some h.sz ∧ U.kd h.sz = (41, 32) ∧ U.fi 2101 s = 1 ∧ U.fi 2103 s = 0 ∧ U.sz = h.sz + 1 ∧ U.rc = 0 ∧ U.rs = 0, brF (by decide) ⟨nn_of rfl S.k, 1, 32, ⟨Nat.le_refl _, Nat.le_refl _⟩, ?_⟩, ?_⟩
  · dsimp only
    unfold wp_J0_inflate
    refine ⟨nn_of rfl S.k, nn_of rfl S.k, ?_⟩
    intro m4 e5
    rw [show ((((h.srm 1 32).srm 1 32).srm 0 0).fi 2101 s) = 0 from co, if_pos rfl] at e5
    rw [e5]
    refine ⟨.inr rfl, ?_⟩
    intro h5 e6
    have e6' : h5 = (h.srm 1 32).srm 1 32 := by rw [e6]; rfl
    rw [e6']
    refine brF (by decide) ⟨nn_of rfl S.k, ?_⟩
    rw [show (((h.srm 1 32).srm 1 32).fr 2100 s) = some v from vr]
    have kd5 : ((h.srm 1 32).srm 1 32).kd v = (41, 16) := k1
    refine ⟨nn_of rfl (by rw [kd5]), 1, 32, ⟨Nat.le_refl _, Nat.le_refl _⟩, ?_⟩
    dsimp only
    rw [adr_some, kd5]
    unfold wp_J3_newBytesFor
    refine ⟨0, 0, ⟨Nat.zero_le _, Nat.zero_le _⟩, ?_⟩
    dsimp only
    unfold wp_J3_newBytesLength
    refine brT (show (0 : Int32) ≤ nI 16 by decide) (brT (show nI 16 < (1073741823 : Int32) by decide) ?_)
    rw [show jshl (nI 16) 1 = 32 by decide]
    intro h6 e7
    have e7' : h6 = ((h.srm 1 32).srm 1 32).srm 1 32 := by rw [e7]; rfl
    rw [e7']
    refine ⟨⟨by decide, by decide, Nat.le_refl _, Nat.le_refl _⟩, ?_⟩
    intro h7 e8 h10 e10
    have e10' : h10 = ((((h.srm 1 32).srm 1 32).srm 1 32).new 41 32 32).srm 0 0 := by rw [e10, e8]; rfl
    have F10 : Fr (WSu s) h.c h10.c := by rw [e10']; exact Fr.new (h := ((h.srm 1 32).srm 1 32).srm 1 32) (Fr.refl _) 41 32 32
    have kz : h10.kd h.sz = (41, 32) := by rw [e10']; exact if_pos rfl
    have sz10 : h10.sz = h.sz + 1 := by rw [e10']; rfl
    have n10 : h10.fi 2103 s = 0 := by rw [show h10.fi 2103 s = h.fi 2103 s by rw [e10']; exact if_neg (by show ¬ s = h.sz; omega)]; exact n
    have ks10 : (h10.kd s).1 = 21 := by
      have := F10.kd s hsl
      rw [show h10.kd s = h.kd s from this]; exact S.k
    refine ⟨nn_of rfl ks10, 0, 0, ⟨Nat.zero_le _, Nat.zero_le _⟩, ?_⟩
    dsimp only
    rw [n10]
    unfold wp_J7_inflate
    refine ⟨0, 0, ⟨Nat.zero_le _, Nat.zero_le _⟩, ?_⟩
    dsimp only
    unfold wp_J3_inflate wp_J3_checkBoundsOffCount wp_J3_length
    rw [show (((h.srm 1 32).srm 1 32).srm 1 32).sz = h.sz from rfl]
    have kz2 : (((h10.srm 0 0).srm 0 0).srm 0 0).kd h.sz = (41, 32) := kz
    refine ⟨nn_of rfl (by show (h10.kd h.sz).1 = 41; rw [kz]), ?_⟩
    rw [adr_some]
    intro h12 e12
    have e12' : h12 = ((h10.srm 0 0).srm 0 0).srm 0 0 := by rw [e12]; rfl
    rw [e12', show jshr (nI ((((h10.srm 0 0).srm 0 0).srm 0 0).srm 0 0 |>.kd h.sz).2) 1 = 16 by rw [show ((((h10.srm 0 0).srm 0 0).srm 0 0).srm 0 0).kd h.sz = (41, 32) from kz]; decide]
    unfold wp_J2_checkBoundsOffCount wp_J8_checkFromIndexSize
    refine brT (show (¬ (((16 : Int32) ||| 0) ||| 0) < 0) ∧ ((0 : Int32) ≤ (16 - 0)) by decide) ?_
    intro h13 e13 h14 e14 h15 e15
    have e15' : h15 = (h10.srm 0 0).srm 0 0 := by rw [e15, e14, e13]; rfl
    rw [e15']
    refine xlp_cnt 0 (fun _ q U => q = (0, 0, 0) ∧ U = (h10.srm 0 0).srm 0 0) ⟨rfl, rfl⟩ ?_
    intro _ q U K _ hh _
    obtain ⟨hq, hU⟩ := hh
    rw [hq, hU]
    refine brT (by decide) ?_
    intro h16 e16 h17 e17
    have e17' : h17 = h10 := by rw [e17, e16, e10']; rfl
    rw [e17']
    refine ⟨nn_of rfl ks10, ?_⟩
    intro h22 e22 h23 e23 h24 e24
    have c24 : h24.c = ((h10.sfr 2100 s (some h.sz)).sfi 2101 s 1).c := by rw [e24, e23, e22]; rfl
    refine ⟨?_, ?_, ?_, ?_, ?_, ?_, ?_, ?_⟩
    · rw [c24]
      exact Fr.sfi (Fr.sfr F10 _ (fun _ => ⟨.inl rfl, rfl⟩)) _ (fun _ => ⟨.inr (.inl rfl), rfl⟩)
    · show h24.c.fr 2100 s = _; rw [c24]; exact sfr_same h10 2100 s _
    · show h24.c.kd h.sz = _; rw [c24]; exact kz
    · show h24.c.fi 2101 s = _; rw [c24]; exact sfi_same _ 2101 s _
    · show h24.c.fi 2103 s = _; rw [c24]; show ((h10.sfr 2100 s (some h.sz)).sfi 2101 s 1).fi 2103 s = 0; rw [sfi_ne _ (F := 2101) s 1 s (by decide)]; exact n10
    · show h24.c.sz = _; rw [c24]; exact sz10
    · rw [e24]; rfl
    · rw [e24]; rfl
  · intro _ U hh
    obtain ⟨F, u1, u2, u3, u4, u5, u6, u7⟩ := hh
    have ks : (U.kd s).1 = 21 := by rw [show U.kd s = h.kd s from F.kd s hsl]; exact S.k
    refine ⟨nn_of rfl ks, ?_⟩
    rw [u4, u1]
    intro h30 e30
    have kd30 : h30.kd h.sz = (41, 32) := by rw [e30]; exact u2
    refine ⟨0, 0, ⟨Nat.zero_le _, Nat.zero_le _⟩, ?_⟩
    dsimp only
    unfold wp_J3_putCharSB wp_J3_checkIndex wp_J3_length
    refine ⟨nn_of rfl (by show (h30.kd h.sz).1 = 41; rw [kd30]), ?_⟩
    rw [adr_some]
    intro h3 e3
    have e3' : h3 = h30.srm 0 0 := by rw [e3]; rfl
    rw [e3', show jshr (nI (((h30.srm 0 0).srm 0 0).srm 0 0 |>.kd h.sz).2) 1 = I 16 by rw [show (((h30.srm 0 0).srm 0 0).srm 0 0).kd h.sz = (41, 32) from kd30]; decide]
    unfold wp_J2_checkIndex
    refine pc_checkIndex (i := 0) (n := 16) (by decide) (by decide) ?_
    intro h5 e5 h6 e6 h7 e7
    have e7' : h7 = h30.srm 0 0 := by rw [e7, e6, e5]; rfl
    rw [e7']
    refine ⟨0, 0, ⟨Nat.zero_le _, Nat.zero_le _⟩, ?_⟩
    dsimp only
    unfold wp_J3_putChar
    have lo30 : h30.lo = h.lo := by rw [e30]; show U.bs.1 = _; rw [show U.bs = h.bs from F.bs]; rfl
    rw [show jshl (0 : Int32) 1 = 0 by decide, adr_some]
    refine ⟨ix_of (k := 0) rfl (show ((h30.srm 0 0).srm 0 0).kd h.sz = (41, 32) from kd30) (by decide) (by decide), by show h30.lo ≤ h.sz; rw [lo30]; exact hlo, ?_⟩
    intro h8 e8
    refine ⟨ix_of (k := 1) rfl (show h8.kd h.sz = (41, 32) by rw [e8]; exact kd30) (by decide) (by decide), by rw [e8]; show h30.lo ≤ h.sz; rw [lo30]; exact hlo, ?_⟩
    intro h9 e9 h10 e10 h11 e11 h13 e13
    have c13 : h13.c = h9.c := by rw [e13, e11, e10]; rfl
    have hnl : ¬ h.sz < h.sz := by omega
    have F9 : Fr (WSu s) h.c h9.c := by
      rw [e9]
      refine Fr.sai ?_ _ _ (fun hh => absurd hh hnl)
      rw [e8]
      refine Fr.sai ?_ _ _ (fun hh => absurd hh hnl)
      show Fr (WSu s) h.c h30.c
      rw [e30]
      exact F.sfi _ (fun _ => ⟨.inr (.inr rfl), rfl⟩)
    have a9 : ∀ i, i < 2 → fits .byte (.int (h9.ai h.sz i)) = true := by
      intro i hi
      have e90 : h9.ai h.sz = updN (h8.ai h.sz) (ni ((0 : Int32) + 1)) (vp_nar .byte (Int8.toInt32 (Int32.toInt8 (jshr p 8)))) := by rw [e9, sai_ai, if_pos rfl]
      have e80 : h8.ai h.sz = updN (h30.ai h.sz) (ni 0) (vp_nar .byte (Int8.toInt32 (Int32.toInt8 (jshr p 0)))) := by rw [e8, sai_ai, if_pos rfl]; rfl
      rw [e90, e80, show ni ((0 : Int32) + 1) = 1 by decide, show ni (0 : Int32) = 0 from rfl]
      rcases (show i = 0 ∨ i = 1 by omega) with e | e
      · rw [e, updN_ne _ _ (by decide), updN_same]; exact fits_nar _
      · rw [e, updN_same]; exact fits_nar _
    refine hQ h13 (by rw [c13]; exact F9) ?_ ?_ ?_ ?_
    · rw [c13]
      refine ⟨?_, Nat.lt_of_lt_of_le S.l F9.sz, ?_, ?_, ?_, a9, ?_, ?_, ?_⟩
      · rw [F9.kd s S.l]; exact S.k
      · show h9.fr 2100 s = _; rw [e9]; show h8.fr 2100 s = _; rw [e8]; show h30.fr 2100 s = _; rw [e30]; exact u1
      · show h9.kd h.sz = _; rw [e9]; show h8.kd h.sz = _; rw [e8]; exact kd30
      · show h.sz < h9.sz; rw [e9]; show h.sz < h8.sz; rw [e8]; show h.sz < h30.sz; rw [e30]; show h.sz < U.sz; omega
      · show h9.fi 2101 s = _; rw [e9]; show h8.fi 2101 s = _; rw [e8]; show h30.fi 2101 s = _; rw [e30, sfi_ne _ (F := 2103) s _ s (by decide)]; exact u3
      · rw [F9.fi 2102 s S.l (by unfold WSu; omega)]; exact ml
      · show h9.fi 2103 s = _; rw [e9]; show h8.fi 2103 s = _; rw [e8]; show h30.fi 2103 s = _; rw [e30, sfi_same]; rfl
    · show h13.c.sz = _; rw [c13]; show h9.sz = _; rw [e9]; show h8.sz = _; rw [e8]; show h30.sz = _; rw [e30]; exact u5
    · rw [e13]; rfl
    · rw [e13]; rfl
end
