/-! plain: k9 -/
set_option maxRecDepth 100000
section
variable {h0 h : AH} {q o jn tpa s v : Nat} {tp : Nat → Nat} {n fr k : Nat} {num : Bool}

/-- one byte more of a token. -/
def rdB (o s : Nat) (T37 : AH) (k36 : Unit → AH → Prop) : Prop :=
  xjn (α := Unit) (fun J46 =>
  ((8 ≤ ((T37.fi 302 o) - (T37.fi 301 o)) →
  J46 () T37) ∧ (¬ 8 ≤ ((T37.fi 302 o) - (T37.fi 301 o)) →
  nn T37 (T37.fr 313 o) 1 ∧
  ix T37 (T37.fr 101 (adr (T37.fr 313 o))) 41 (T37.fi 302 o) ∧
  nn T37 (some s) 21 ∧
  cl T37 fun mc53 ms54 => wp_J1_append s (ji2c (T37.ai (adr (T37.fr 101 (adr (T37.fr 313 o)))) (ni (T37.fi 302 o)))) (T37.srm mc53 ms54) fun r50 h51 => ∀ h52, h52 = h51.srm (T37.rc - mc53) (T37.rs - ms54) →
  J46 () h52))) (fun x56 T57 =>
  nn T57 (some o) 3 ∧
  xjn (α := Unit) (fun J60 =>
  (((T57.fi 307 o) = 0 →
  J60 () T57) ∧ (¬ (T57.fi 307 o) = 0 →
  ((4 ≤ ((T57.fi 302 o) - (T57.fi 301 o)) →
  J60 () T57) ∧ (¬ 4 ≤ ((T57.fi 302 o) - (T57.fi 301 o)) →
  nn T57 (T57.fr 313 o) 1 ∧
  ix T57 (T57.fr 101 (adr (T57.fr 313 o))) 41 (T57.fi 302 o) ∧
  ∀ h64, h64 = T57.sfi 306 o (((10 * (T57.fi 306 o)) + (T57.ai (adr (T57.fr 101 (adr (T57.fr 313 o)))) (ni (T57.fi 302 o)))) - 48) →
  J60 () h64))))) (fun x65 T66 =>
  nn T66 (some o) 3 ∧
  ∀ h68, h68 = T66.sfi 302 o ((T66.fi 302 o) + 1) →
  k36 () h68))

/-- how far a token is read. -/
def RdL (h0 T : AH) (q o jn tpa s v : Nat) (tp : Nat → Nat) (n fr k : Nat) (num : Bool) : Prop :=
  (Fr (WRd q) h0.c T.c) ∧
  (RdR T.c q o jn tpa tp n) ∧
  (q < h0.sz) ∧
  (h0.sz ≤ s) ∧
  (h0.sz ≤ v) ∧
  (SbR T.c s v (bys tp fr (min k 8))) ∧
  (T.fi 2102 s = 0) ∧
  (T.fi 301 q = I fr) ∧
  (T.fi 302 q = I (fr + k)) ∧
  (T.fi 307 q = if num then 1 else 0) ∧
  (T.fi 306 q = if num then I (nmv tp fr (min k 4)) else 0) ∧
  (T.rc = 3) ∧
  (T.rs = 48)
theorem RdL.F {h0 T : AH} {q o jn tpa s v : Nat} {tp : Nat → Nat} {n fr k : Nat} {num : Bool} (h9 : RdL h0 T q o jn tpa s v tp n fr k num) : Fr (WRd q) h0.c T.c := h9.1
theorem RdL.R {h0 T : AH} {q o jn tpa s v : Nat} {tp : Nat → Nat} {n fr k : Nat} {num : Bool} (h9 : RdL h0 T q o jn tpa s v tp n fr k num) : RdR T.c q o jn tpa tp n := h9.2.1
theorem RdL.ql {h0 T : AH} {q o jn tpa s v : Nat} {tp : Nat → Nat} {n fr k : Nat} {num : Bool} (h9 : RdL h0 T q o jn tpa s v tp n fr k num) : q < h0.sz := h9.2.2.1
theorem RdL.s1 {h0 T : AH} {q o jn tpa s v : Nat} {tp : Nat → Nat} {n fr k : Nat} {num : Bool} (h9 : RdL h0 T q o jn tpa s v tp n fr k num) : h0.sz ≤ s := h9.2.2.2.1
theorem RdL.s2 {h0 T : AH} {q o jn tpa s v : Nat} {tp : Nat → Nat} {n fr k : Nat} {num : Bool} (h9 : RdL h0 T q o jn tpa s v tp n fr k num) : h0.sz ≤ v := h9.2.2.2.2.1
theorem RdL.S {h0 T : AH} {q o jn tpa s v : Nat} {tp : Nat → Nat} {n fr k : Nat} {num : Bool} (h9 : RdL h0 T q o jn tpa s v tp n fr k num) : SbR T.c s v (bys tp fr (min k 8)) := h9.2.2.2.2.2.1
theorem RdL.ml {h0 T : AH} {q o jn tpa s v : Nat} {tp : Nat → Nat} {n fr k : Nat} {num : Bool} (h9 : RdL h0 T q o jn tpa s v tp n fr k num) : T.fi 2102 s = 0 := h9.2.2.2.2.2.2.1
theorem RdL.f1 {h0 T : AH} {q o jn tpa s v : Nat} {tp : Nat → Nat} {n fr k : Nat} {num : Bool} (h9 : RdL h0 T q o jn tpa s v tp n fr k num) : T.fi 301 q = I fr := h9.2.2.2.2.2.2.2.1
theorem RdL.f2 {h0 T : AH} {q o jn tpa s v : Nat} {tp : Nat → Nat} {n fr k : Nat} {num : Bool} (h9 : RdL h0 T q o jn tpa s v tp n fr k num) : T.fi 302 q = I (fr + k) := h9.2.2.2.2.2.2.2.2.1
theorem RdL.f7 {h0 T : AH} {q o jn tpa s v : Nat} {tp : Nat → Nat} {n fr k : Nat} {num : Bool} (h9 : RdL h0 T q o jn tpa s v tp n fr k num) : T.fi 307 q = if num then 1 else 0 := h9.2.2.2.2.2.2.2.2.2.1
theorem RdL.f6 {h0 T : AH} {q o jn tpa s v : Nat} {tp : Nat → Nat} {n fr k : Nat} {num : Bool} (h9 : RdL h0 T q o jn tpa s v tp n fr k num) : T.fi 306 q = if num then I (nmv tp fr (min k 4)) else 0 := h9.2.2.2.2.2.2.2.2.2.2.1
theorem RdL.c1 {h0 T : AH} {q o jn tpa s v : Nat} {tp : Nat → Nat} {n fr k : Nat} {num : Bool} (h9 : RdL h0 T q o jn tpa s v tp n fr k num) : T.rc = 3 := h9.2.2.2.2.2.2.2.2.2.2.2.1
theorem RdL.c2 {h0 T : AH} {q o jn tpa s v : Nat} {tp : Nat → Nat} {n fr k : Nat} {num : Bool} (h9 : RdL h0 T q o jn tpa s v tp n fr k num) : T.rs = 48 := h9.2.2.2.2.2.2.2.2.2.2.2.2
theorem ji2c_lo {b : Nat} (hb : b < 128) : ji2c (sB b) = I b := by
  have key : ∀ b : Fin 128, ji2c (sB b.1) = I b.1 := by decide +kernel
  exact key ⟨b, hb⟩
theorem ji2c_hi {b : Nat} (hb : 128 ≤ b) (hb2 : b < 256) : 255 < ji2c (sB b) := by
  have key : ∀ b : Fin 256, 128 ≤ b.1 → 255 < ji2c (sB b.1) := by decide +kernel
  exact key ⟨b, hb2⟩ hb

theorem RdL.step (Y : RdL h0 h q o jn tpa s v tp n fr k num) (hk : fr + k < n) (hb : tp (fr + k) < 128) (hnum : num = true → 48 ≤ tp (fr + k) ∧ tp (fr + k) ≤ 57) {K : Unit → AH → Prop} (hK : ∀ T, RdL h0 T q o jn tpa s v tp n fr (k + 1) num → K () T) : rdB q s h K := by
  have hm := Y.R.m
  have ql := Y.ql
  have s1 := Y.s1
  have s2 := Y.s2
  have ed : h.fi 302 q - h.fi 301 q = I k := by
    rw [Y.f2, Y.f1, I_sub (by omega)]; congr 1; omega
  have sl : s < h.sz := Y.S.l
  have vl : v < h.sz := Y.S.vl
  have tl : tpa < h.sz := Y.R.B.t3
  unfold rdB
  rw [ed]
  -- the string
  refine ⟨fun _ T => Fr (WRd q) h0.c T.c ∧ RdR T.c q o jn tpa tp n ∧ SbR T.c s v (bys tp fr (min (k + 1) 8)) ∧ T.fi 2102 s = 0 ∧ T.fi 301 q = I fr ∧ T.fi 302 q = I (fr + k) ∧ T.fi 307 q = (if num then 1 else 0) ∧ T.fi 306 q = (if num then I (nmv tp fr (min k 4)) else 0) ∧ T.rc = 3 ∧ T.rs = 48, ?_, ?_⟩
  · by_cases h8 : 8 ≤ k
    · refine brT (show (8 : Int32) ≤ I k from (L_le 8 (by decide) (by omega)).2 h8) ⟨Y.F, Y.R, ?_, Y.ml, Y.f1, Y.f2, Y.f7, Y.f6, Y.c1, Y.c2⟩
      have e : min (k + 1) 8 = min k 8 := by omega
      rw [e]; exact Y.S
    · refine brF (fun hh => h8 ((L_le 8 (by decide) (by omega)).1 hh)) ?_
      rw [show h.fr 313 q = some o from Y.R.u, adr_some, show h.fr 101 o = some tpa from Y.R.B.t1, Y.f2]
      refine ⟨Y.R.B.nn, ix_of rfl (show h.kd tpa = (41, 1000) from Y.R.B.t2) (by omega) (by omega), nn_of rfl Y.S.k, 0, 0, ⟨Nat.zero_le _, Nat.zero_le _⟩, ?_⟩
      rw [adr_some, I_ni (by omega), show h.ai tpa (fr + k) = sB (tp (fr + k)) from Y.R.t _ hk, ji2c_lo hb]
      have S : SbR h.c s v (bys tp fr k) := by
        have := Y.S
        rw [show min k 8 = k by omega] at this
        exact this
      refine pc_append (h := h.srm 0 0) S (by rw [bys_len]; omega) hb ?_
      intro T F' S' _ _ _ T2 e2
      have c2 : T2.c = T.c := by rw [e2]; rfl
      have F'' : Fr (WSb s v) h.c T.c := F'
      have hq : ∀ f, ¬ WSb s v f q := fun f hh => by rcases hh with ⟨_, e⟩ | ⟨_, e⟩ <;> omega
      have fi_ : ∀ f, T2.fi f q = h.fi f q := fun f => by
        show T2.c.fi f q = _
        rw [c2]; exact F''.fi f q Y.R.l (hq f)
      have Wlo : ∀ f a, WSb s v f a → h.c.lo ≤ a := by
        intro f a hh
        have b1 := Y.S.vb
        have b2 : h.c.lo ≤ s := by
          have := Y.R.b
          have : h.c.lo ≤ q := this
          omega
        rcases hh with ⟨_, e⟩ | ⟨_, e⟩
        · rw [e]; exact b2
        · rw [e]; exact b1
      have os : o ≠ s ∧ o ≠ v ∧ jn ≠ s ∧ jn ≠ v ∧ tpa ≠ s ∧ tpa ≠ v := by
        have h1 := Y.F
        have k1 := Y.R.B.k
        have k2 := Y.R.B.j2
        have k3 := Y.R.B.t2
        have k4 := Y.S.k
        have k5 := Y.S.vk
        refine ⟨fun e => ?_, fun e => ?_, fun e => ?_, fun e => ?_, fun e => ?_, fun e => ?_⟩
        · rw [e, k4] at k1; exact absurd k1 (by decide)
        · rw [e, k5] at k1; exact absurd k1 (by decide)
        · rw [e] at k2; rw [k2] at k4; exact absurd k4 (by decide)
        · rw [e, k5] at k2; exact absurd (Prod.mk.inj k2).1 (by decide)
        · rw [e] at k3; rw [k3] at k4; exact absurd k4 (by decide)
        · rw [e, k5] at k3; exact absurd (Prod.mk.inj k3).2 (by decide)
      refine ⟨?_, ?_, ?_, ?_, by rw [fi_]; exact Y.f1, by rw [fi_]; exact Y.f2, by rw [fi_]; exact Y.f7, by rw [fi_]; exact Y.f6, ?_, ?_⟩
      · rw [c2]
        exact Y.F.trans' F'' (fun f a ha hh => by have h9 : a < h0.sz := ha; rcases hh with ⟨_, e⟩ | ⟨_, e⟩ <;> omega)
      · rw [c2]
        refine Y.R.keep F'' (hq _) (hq _) ?_ ?_ ?_ ?_ Wlo
        · rintro (⟨_, e⟩ | ⟨_, e⟩); exact os.1 e; exact os.2.1 e
        · rintro (⟨_, e⟩ | ⟨_, e⟩); exact os.1 e; exact os.2.1 e
        · rintro (⟨_, e⟩ | ⟨_, e⟩); exact os.2.2.1 e; exact os.2.2.2.1 e
        · rintro (⟨_, e⟩ | ⟨_, e⟩); exact os.2.2.2.2.1 e; exact os.2.2.2.2.2 e
      · rw [c2, show min (k + 1) 8 = k + 1 by omega, bys_succ]; exact S'
      · show T2.c.fi 2102 s = 0
        rw [c2, F''.fi 2102 s sl (by unfold WSb; omega)]; exact Y.ml
      · rw [e2]; show h.rc - 0 = 3; rw [Y.c1]
      · rw [e2]; show h.rs - 0 = 48; rw [Y.c2]
  -- the number
  intro _ T hh
  obtain ⟨F, R, S, ml, f1, f2, f7, f6, c1, c2⟩ := hh
  refine ⟨nn_of rfl R.k, ?_⟩
  have ed' : T.fi 302 q - T.fi 301 q = I k := by
    rw [f2, f1, I_sub (by omega)]; congr 1; omega
  rw [ed']
  refine ⟨fun _ U => Fr (WRd q) h0.c U.c ∧ RdR U.c q o jn tpa tp n ∧ SbR U.c s v (bys tp fr (min (k + 1) 8)) ∧ U.fi 2102 s = 0 ∧ U.fi 301 q = I fr ∧ U.fi 302 q = I (fr + k) ∧ U.fi 307 q = (if num then 1 else 0) ∧ U.fi 306 q = (if num then I (nmv tp fr (min (k + 1) 4)) else 0) ∧ U.rc = 3 ∧ U.rs = 48, ?_, ?_⟩
  · rw [f7]
    cases hn : num with
    | false =>
      rw [hn] at f7 f6
      exact brT rfl ⟨F, R, S, ml, f1, f2, f7, f6, c1, c2⟩
    | true =>
      rw [hn] at f7 f6
      refine brF (by decide) ?_
      by_cases h4 : 4 ≤ k
      · refine brT (show (4 : Int32) ≤ I k from (L_le 4 (by decide) (by omega)).2 h4) ⟨F, R, S, ml, f1, f2, f7, ?_, c1, c2⟩
        rw [show min (k + 1) 4 = min k 4 by omega]; exact f6
      · refine brF (fun hh => h4 ((L_le 4 (by decide) (by omega)).1 hh)) ?_
        rw [show T.fr 313 q = some o from R.u, adr_some, show T.fr 101 o = some tpa from R.B.t1, f2]
        refine ⟨R.B.nn, ix_of rfl (show T.kd tpa = (41, 1000) from R.B.t2) (by omega) (by omega), ?_⟩
        rw [adr_some, I_ni (by omega), show T.ai tpa (fr + k) = sB (tp (fr + k)) from R.t _ hk, sB_lo hb, f6, if_pos rfl]
        obtain ⟨b1, b2⟩ := hnum hn
        have ev : (10 * I (nmv tp fr (min k 4)) + I (tp (fr + k))) - 48 = I (nmv tp fr (k + 1)) := by
          rw [show min k 4 = k by omega, L_mul, I_add, sub_L 48 (by show 48 ≤ _; omega)]
          congr 1
          show 10 * nmv tp fr k + tp (fr + k) - 48 = 10 * nmv tp fr k + (tp (fr + k) - 48)
          omega
        rw [ev]
        intro U eU
        have FU : Fr (WRd q) T.c U.c := by rw [eU]; exact (Fr.refl _).sfi _ (fun _ => ⟨rfl, .inr (.inr (.inr (.inl rfl)))⟩)
        have g : ∀ f, f ≠ 306 → U.fi f q = T.fi f q := fun f hf => by rw [eU]; exact sfi_ne T q _ q hf
        refine ⟨F.trans FU, R.go FU, S.keep FU ?_ ?_ ?_ ?_, ?_, by rw [g _ (by decide)]; exact f1, by rw [g _ (by decide)]; exact f2, by rw [g _ (by decide)]; exact f7, ?_, by rw [eU]; exact c1, by rw [eU]; exact c2⟩
        · rintro ⟨e, _⟩; omega
        · rintro ⟨e, _⟩; omega
        · rintro ⟨e, _⟩; omega
        · rintro ⟨e, _⟩; omega
        · rw [eU, sfi_na T 306 _ 2102 (show s ≠ q by omega)]; exact ml
        · rw [eU, sfi_same, if_pos rfl, show min (k + 1) 4 = k + 1 by omega]
  · intro _ U hh
    obtain ⟨F, R, S, ml, f1, f2, f7, f6, c1, c2⟩ := hh
    refine ⟨nn_of rfl R.k, ?_⟩
    rw [f2, show I (fr + k) + 1 = I (fr + (k + 1)) from I_add _ 1]
    intro V eV
    have FV : Fr (WRd q) U.c V.c := by rw [eV]; exact (Fr.refl _).sfi _ (fun _ => ⟨rfl, .inr (.inl rfl)⟩)
    have g : ∀ f, f ≠ 302 → V.fi f q = U.fi f q := fun f hf => by rw [eV]; exact sfi_ne U q _ q hf
    refine hK V ⟨F.trans FV, R.go FV, ql, s1, s2, S.keep FV ?_ ?_ ?_ ?_, ?_, by rw [g _ (by decide)]; exact f1, by rw [eV, sfi_same], by rw [g _ (by decide)]; exact f7, by rw [g _ (by decide)]; exact f6, by rw [eV]; exact c1, by rw [eV]; exact c2⟩
    · rintro ⟨e, _⟩; omega
    · rintro ⟨e, _⟩; omega
    · rintro ⟨e, _⟩; omega
    · rintro ⟨e, _⟩; omega
    · rw [eV, sfi_na U 302 _ 2102 (show s ≠ q by omega)]; exact ml
end
