/-! plain: ud -/
set_option maxRecDepth 100000
section
variable {h : AH} {o jn tpa x z g : Nat} {L : GA} {A : PG} {ind : Nat → Int32} {X : AX} {V : Tv} {gv : Nat → Int32} {D : TA} {i : Nat} {B : IA} {tu un : Nat} {s : TjS} {ga : Nat} {v : Vl}

theorem Fr.man {W : Nat → Nat → Prop} {c : HC} {h : AH} (H : Fr W c h.c) (n k : Nat) : ∀ i, Fr W c (h.man n k i).c
  | 0 => H.new 47 n n
  | i + 1 => ((Fr.man H n k i).new 40 k k).sar i _ (fun hh => by
    have : c.sz ≤ h.sz := H.sz
    omega)
theorem man_fld (h : AH) (n k : Nat) : ∀ i, (∀ f a, a < h.sz → (h.man n k i).fi f a = h.fi f a) ∧ (∀ f a, a < h.sz → (h.man n k i).fr f a = h.fr f a) ∧ (∀ a, a < h.sz → (h.man n k i).ai a = h.ai a) ∧ (∀ a, a < h.sz → (h.man n k i).ar a = h.ar a) ∧ (∀ a, a < h.sz → (h.man n k i).kd a = h.kd a) := fun i => by
  have F : Fr W0 h.c (h.man n k i).c := (Fr.refl h.c).man n k i
  exact ⟨fun f a ha => F.fi f a ha id, fun f a ha => F.fr f a ha id, fun a ha => F.ai a ha id, fun a ha => F.ar a ha id, fun a ha => F.kd a ha⟩
theorem man_in (h : AH) (n k : Nat) : ∀ i j, j < i → (h.man n k i).kd (h.sz + 1 + j) = (40, k) ∧ (h.man n k i).ar h.sz j = some (h.sz + 1 + j) ∧ (∀ q, (h.man n k i).ai (h.sz + 1 + j) q = 0)
  | 0, j, hj => absurd hj (Nat.not_lt_zero _)
  | i + 1, j, hj => by
    have es := man_sz h n k i
    have kd : ((h.man n k i).new 40 k k).kd (h.sz + 1 + j) = if h.sz + 1 + j = (h.man n k i).sz then (40, k) else (h.man n k i).kd (h.sz + 1 + j) := rfl
    have ai : ((h.man n k i).new 40 k k).ai (h.sz + 1 + j) = if h.sz + 1 + j = (h.man n k i).sz then (fun _ => 0) else (h.man n k i).ai (h.sz + 1 + j) := new_ai _ _ _ _ _
    have ar : ((h.man n k i).new 40 k k).ar h.sz = (h.man n k i).ar h.sz := (new_ar _ _ _ _ _).trans (if_neg (by omega))
    refine ⟨?_, ?_, fun q => ?_⟩
    · show ((h.man n k i).new 40 k k).kd (h.sz + 1 + j) = _
      rw [kd]
      by_cases e : j = i
      · rw [if_pos (by omega)]
      · rw [if_neg (by omega)]; exact (man_in h n k i j (by omega)).1
    · show (((h.man n k i).new 40 k k).sar h.sz i (some (h.sz + 1 + i))).ar h.sz j = _
      rw [sar_ar, if_pos rfl, ar]
      by_cases e : j = i
      · rw [e, updN_same]
      · rw [updN_ne _ _ e]; exact (man_in h n k i j (by omega)).2.1
    · show ((h.man n k i).new 40 k k).ai (h.sz + 1 + j) q = _
      rw [ai]
      by_cases e : j = i
      · rw [if_pos (by omega)]
      · rw [if_neg (by omega)]; exact (man_in h n k i j (by omega)).2.2 q
theorem px_all14 (S : ShW h.c o x z L A g ind) {t : SSt} {r : Nat} (B : ShB h.c x t r) {Q : Int32 → AH → Prop} (hQ : Q (I (sN t.mn 8)) h) : wp_X14_all x h Q := by
  have f2 : h.fr 1402 x = some (x + 16) := S.f2
  have k4 : h.kd (x + 16) = (40, 8) := S.k4
  unfold wp_X14_all
  rw [f2, adr_some, k4]
  refine ⟨nn_of rfl S.k, nn_of rfl (by rw [k4]), ?_⟩
  refine xlp_cnt 8 (fun n q U => q = (I (sN t.mn n), I n) ∧ U = h) ⟨rfl, rfl⟩ ?_
  rintro n q U K hn ⟨eq, eU⟩ hK
  rw [eq, eU]
  dsimp only
  by_cases e : n = 8
  · rw [e]
    exact brT (by decide) hQ
  · refine brF (fun hh => by have := (I_le (a := 8) (b := n) (by decide) (by omega)).1 hh; omega) ⟨ix_of rfl k4 (by omega) (by decide), ?_⟩
    rw [I_ni (by omega), show h.ai (x + 16) n = I (t.mn n) from B.mn n (by omega)]
    exact hK _ _ (by omega) ⟨Prod.ext (I_add _ _) (I_add n 1), rfl⟩
/-- all rounds. -/
theorem px_init14 (hk : (h.kd x).1 = 14) (hx : h.sz = x + 1) (ol : o < x) (ok : (h.kd o).1 = 1) (fg : h.fr 103 o = some g) (zx : z ≤ x) (C : CgR (h.c.cut z) L A g ind) (i4 : h.fi 1404 x = 0) (hc : 1290 ≤ h.rc) (hs : 38000 ≤ h.rs) {Q : AH → Prop}
    (hQ : ∀ h', Fr (fun _ a => x ≤ a) h.c h'.c → ShR h'.c x (x + 16) A.g → Q h') : wp_X14_init x (some o) h Q := by
  have W := C.W
  obtain ⟨w1, w2, w3, w4, w5, w6⟩ := Gv.shE_two W
  unfold wp_X14_init
  refine ⟨nn_of rfl hk, ?_⟩
  intro h2 e2
  have F2 : Fr (fun _ a => x ≤ a) h.c h2.c := by rw [e2]; exact (Fr.refl _).sfr _ (fun _ => Nat.le_refl _)
  have z2 : h2.sz = x + 1 := by rw [e2]; exact hx
  have c2 : h2.rc = h.rc := by rw [e2]; rfl
  have s2 : h2.rs = h.rs := by rw [e2]; rfl
  have k2 : (h2.kd x).1 = 14 := by rw [e2]; exact hk
  have g8 : h2.fr 1408 x = some o := by rw [e2]; exact sfr_same _ _ _ _
  have j4 : h2.fi 1404 x = 0 := by rw [e2]; exact i4
  rw [show ni 8 = 8 from rfl, show ni 12 = 12 from rfl, show ni 5 = 5 from rfl, show ni 32 = 32 from rfl]
  refine ⟨⟨by decide, by decide, by decide, by decide, by show 1 + 8 ≤ _; omega, by show 8 + 8 * 12 ≤ _; omega⟩, ?_⟩
  intro h3 e3
  have z3 : h3.sz = x + 10 := by rw [e3, man_sz, z2]
  have c3 : h3.rc = h.rc - 9 := by rw [e3, man_rc, c2]; omega
  have s3 : h3.rs = h.rs - 104 := by rw [e3, man_rs, s2]; omega
  have F3 : Fr (fun _ a => x ≤ a) h.c h3.c := by rw [e3]; exact F2.man 8 12 8
  obtain ⟨m1, m2, m3, m4, m5⟩ := man_fld h2 8 12 8
  have mi := man_in h2 8 12 8
  have mk := man_kd h2 8 12 8
  rw [← e3, z2] at m1 m2 m3 m4 m5 mi
  rw [← e3, z2] at mk
  have k3 : (h3.kd x).1 = 14 := by rw [m5 x (by omega)]; exact k2
  refine ⟨nn_of rfl k3, ?_⟩
  rw [z2]
  intro h5 e5
  have F5 : Fr (fun _ a => x ≤ a) h.c h5.c := by rw [e5]; exact F3.sfr _ (fun _ => Nat.le_refl _)
  have z5 : h5.sz = x + 10 := by rw [e5]; exact z3
  have c5 : h5.rc = h.rc - 9 := by rw [e5]; exact c3
  have s5 : h5.rs = h.rs - 104 := by rw [e5]; exact s3
  refine ⟨⟨by decide, by decide, by decide, by decide, by show 1 + 5 ≤ _; omega, by show 5 + 5 * 32 ≤ _; omega⟩, ?_⟩
  intro h6 e6
  have z6 : h6.sz = x + 16 := by rw [e6, man_sz, z5]
  have c6 : h6.rc = h.rc - 15 := by rw [e6, man_rc, c5]; omega
  have s6 : h6.rs = h.rs - 269 := by rw [e6, man_rs, s5]; omega
  have F6 : Fr (fun _ a => x ≤ a) h.c h6.c := by rw [e6]; exact F5.man 5 32 5
  obtain ⟨n1, n2, n3, n4, n5⟩ := man_fld h5 5 32 5
  have ni' := man_in h5 5 32 5
  have nk := man_kd h5 5 32 5
  rw [← e6, z5] at n1 n2 n3 n4 n5 ni'
  rw [← e6, z5] at nk
  have k5' : h5.kd = h3.kd := by rw [e5]; rfl
  have fr5 : ∀ f, f ≠ 1400 → h5.fr f x = h3.fr f x := fun f hf => by rw [e5]; exact sfr_ne _ _ _ _ hf
  have fr50 : h5.fr 1400 x = some (x + 1) := by rw [e5]; exact sfr_same _ _ _ _
  have ar5 : h5.ar = h3.ar := by rw [e5]; rfl
  have ai5 : h5.ai = h3.ai := by rw [e5]; rfl
  have fi5 : h5.fi = h3.fi := by rw [e5]; rfl
  have k6 : (h6.kd x).1 = 14 := by rw [n5 x (by omega), k5']; exact k3
  refine ⟨nn_of rfl k6, ?_⟩
  rw [z5]
  intro h8 e8
  have F8 : Fr (fun _ a => x ≤ a) h.c h8.c := by rw [e8]; exact F6.sfr _ (fun _ => Nat.le_refl _)
  have z8 : h8.sz = x + 16 := by rw [e8]; exact z6
  have c8 : h8.rc = h.rc - 15 := by rw [e8]; exact c6
  have s8 : h8.rs = h.rs - 269 := by rw [e8]; exact s6
  have hn8 : ∀ H : AH, 1 ≤ H.rc → 8 ≤ H.rs → nl H 8 := fun H a b => ⟨by decide, by decide, a, b⟩
  refine ⟨hn8 _ (by omega) (by omega), ?_⟩
  intro h9 e9
  have F9 : Fr (fun _ a => x ≤ a) h.c h9.c := by rw [e9]; exact F8.new _ _ _
  have z9 : h9.sz = x + 17 := by rw [e9]; show h8.sz + 1 = _; omega
  have c9 : h9.rc = h.rc - 16 := by rw [e9]; show h8.rc - 1 = _; omega
  have s9 : h9.rs = h.rs - 277 := by rw [e9]; show h8.rs - 8 = _; omega
  have kd9 : ∀ a, h9.kd a = if a = x + 16 then (40, 8) else h8.kd a := fun a => by rw [e9, ← z8]; rfl
  have k9 : (h9.kd x).1 = 14 := by
    rw [kd9, if_neg (by omega), e8]; exact k6
  refine ⟨nn_of rfl k9, ?_⟩
  rw [z8]
  intro h11 e11
  have F11 : Fr (fun _ a => x ≤ a) h.c h11.c := by rw [e11]; exact F9.sfr _ (fun _ => Nat.le_refl _)
  have z11 : h11.sz = x + 17 := by rw [e11]; exact z9
  have c11 : h11.rc = h.rc - 16 := by rw [e11]; exact c9
  have s11 : h11.rs = h.rs - 277 := by rw [e11]; exact s9
  refine ⟨hn8 _ (by omega) (by omega), ?_⟩
  intro h12 e12
  have F12 : Fr (fun _ a => x ≤ a) h.c h12.c := by rw [e12]; exact F11.new _ _ _
  have z12 : h12.sz = x + 18 := by rw [e12]; show h11.sz + 1 = _; omega
  have c12 : h12.rc = h.rc - 17 := by rw [e12]; show h11.rc - 1 = _; omega
  have s12 : h12.rs = h.rs - 285 := by rw [e12]; show h11.rs - 8 = _; omega
  have kd12 : ∀ a, h12.kd a = if a = x + 17 then (40, 8) else h9.kd a := fun a => by rw [e12, ← z11, e11]; rfl
  have k12 : (h12.kd x).1 = 14 := by rw [kd12, if_neg (by omega)]; exact k9
  refine ⟨nn_of rfl k12, ?_⟩
  rw [z11]
  intro h14 e14 h15 e15 h16 e16
  have F16 : Fr (fun _ a => x ≤ a) h.c h16.c := by
    rw [e16, e15, e14]
    exact ((F12.sfr _ (fun _ => Nat.le_refl _)).sfi _ (fun _ => Nat.le_refl _)).sfi _ (fun _ => Nat.le_refl _)
  have z16 : h16.sz = x + 18 := by rw [e16, e15, e14]; exact z12
  have c16 : h16.rc = h.rc - 17 := by rw [e16, e15, e14]; exact c12
  have s16 : h16.rs = h.rs - 285 := by rw [e16, e15, e14]; exact s12
  -- what lies there
  have kd16 : h16.kd = h12.kd := by rw [e16, e15, e14]; rfl
  have KD : ∀ a, a < x + 16 → h16.kd a = h6.kd a := fun a ha => by rw [kd16, kd12, if_neg (by omega), kd9, if_neg (by omega), e8]; rfl
  have fr14 : h16.fr = h14.fr := by rw [e16, e15]; rfl
  have fr12 : ∀ f, h12.fr f x = h11.fr f x := fun f => by rw [e12]; exact if_neg (by omega)
  have fr9 : ∀ f, h9.fr f x = h8.fr f x := fun f => by rw [e9]; exact if_neg (by omega)
  have q3 : h16.fr 1403 x = some (x + 17) := by rw [fr14, e14]; exact sfr_same _ _ _ _
  have q2 : h16.fr 1402 x = some (x + 16) := by rw [fr14, e14, sfr_ne _ _ _ _ (by decide), fr12, e11]; exact sfr_same _ _ _ _
  have q1 : h16.fr 1401 x = some (x + 10) := by rw [fr14, e14, sfr_ne _ _ _ _ (by decide), fr12, e11, sfr_ne _ _ _ _ (by decide), fr9, e8]; exact sfr_same _ _ _ _
  have q0 : ∀ f, f ≠ 1401 → f ≠ 1402 → f ≠ 1403 → h16.fr f x = h6.fr f x := fun f a b c => by rw [fr14, e14, sfr_ne _ _ _ _ c, fr12, e11, sfr_ne _ _ _ _ b, fr9, e8, sfr_ne _ _ _ _ a]
  have ar16 : ∀ a, a < x + 16 → h16.ar a = h6.ar a := fun a ha => by
    have a1 : h16.ar a = h12.ar a := by rw [e16, e15, e14]; rfl
    have a2 : h12.ar a = h11.ar a := by rw [e12, new_ar, if_neg (by omega)]
    have a3 : h11.ar a = h9.ar a := by rw [e11]; rfl
    have a4 : h9.ar a = h8.ar a := by rw [e9, new_ar, if_neg (by omega)]
    have a5 : h8.ar a = h6.ar a := by rw [e8]; rfl
    rw [a1, a2, a3, a4, a5]
  have ai16 : h16.ai (x + 16) = fun _ => 0 := by
    have a1 : h16.ai (x + 16) = h12.ai (x + 16) := by rw [e16, e15, e14]; rfl
    have a2 : h12.ai (x + 16) = h11.ai (x + 16) := by rw [e12, new_ai, if_neg (by omega)]
    have a3 : h11.ai (x + 16) = h9.ai (x + 16) := by rw [e11]; rfl
    have a4 : h9.ai (x + 16) = fun _ => 0 := by rw [e9, new_ai, if_pos z8.symm]
    rw [a1, a2, a3, a4]
  have fi12 : ∀ f, h12.fi f x = h6.fi f x := fun f => by
    have a2 : h12.fi f x = h11.fi f x := by rw [e12]; exact if_neg (by omega)
    have a3 : h11.fi f x = h9.fi f x := by rw [e11]; rfl
    have a4 : h9.fi f x = h8.fi f x := by rw [e9]; exact if_neg (by omega)
    have a5 : h8.fi f x = h6.fi f x := by rw [e8]; rfl
    rw [a2, a3, a4, a5]
  have S : ShW h16.c o x z L A g ind := by
    refine ⟨?_, ?_, ?_, ?_, fun i hi => ?_, fun i hi => ?_, q1, ?_, fun i hi => ?_, fun i hi => ?_, q2, ?_, q3, ?_, ?_, ol, ?_, ?_, zx, C.kc (by show z ≤ h.sz; omega) F16 (fun f a ha hh => by have h1 : x ≤ a := hh; omega)⟩
    · show (h16.kd x).1 = 14
      rw [KD _ (by omega)]; exact k6
    · show x + 18 ≤ h16.sz
      omega
    · show h16.fr 1400 x = _
      rw [q0 _ (by decide) (by decide) (by decide), n2 _ _ (by omega)]; exact fr50
    · show h16.kd (x + 1) = _
      rw [KD _ (by omega), n5 _ (by omega), k5']; exact mk
    · show h16.ar (x + 1) i = _
      rw [ar16 _ (by omega), n4 _ (by omega), ar5]; exact (mi i hi).2.1
    · show h16.kd (x + 2 + i) = _
      rw [KD _ (by omega), n5 _ (by omega), k5', show x + 2 + i = x + 1 + 1 + i by omega]; exact (mi i hi).1
    · show h16.kd (x + 10) = _
      rw [KD _ (by omega)]; exact nk
    · show h16.ar (x + 10) i = _
      rw [ar16 _ (by omega)]; exact (ni' i hi).2.1
    · show h16.kd (x + 11 + i) = _
      rw [KD _ (by omega)]; exact (ni' i hi).1
    · show h16.kd (x + 16) = _
      rw [kd16, kd12, if_neg (by omega), kd9, if_pos rfl]
    · show h16.kd (x + 17) = _
      rw [kd16, kd12, if_pos rfl]
    · show h16.fr 1408 x = _
      rw [q0 _ (by decide) (by decide) (by decide), n2 _ _ (by omega), fr5 _ (by decide), m2 _ _ (by omega)]; exact g8
    · show (h16.kd o).1 = 1
      have : h16.kd o = h.kd o := F16.kd o (by show o < h.sz; omega)
      rw [this]; exact ok
    · show h16.fr 103 o = some g
      have : h16.fr 103 o = h.fr 103 o := F16.fr 103 o (by show o < h.sz; omega) (fun hh => by have h1 : x ≤ o := hh; omega)
      rw [this]; exact fg
  have B : ShB h16.c x (A.g.shK 0) 0 := by
    refine ⟨?_, ?_, ?_, fun s hs => ?_, fun s k hs hk => absurd (show k < 0 from hk) (Nat.not_lt_zero _), fun s => Nat.zero_le _, Nat.zero_le _, Nat.zero_le _⟩
    · show h16.fi 1404 x = 0
      rw [e16, sfi_ne _ _ _ _ (by decide), e15, sfi_ne _ _ _ _ (by decide), e14]
      show h12.fi 1404 x = 0
      rw [fi12, n1 _ _ (by omega), fi5, m1 _ _ (by omega)]; exact j4
    · show h16.fi 1405 x = -1
      rw [e16, sfi_ne _ _ _ _ (by decide), e15, sfi_same]
    · show h16.fi 1406 x = -1
      rw [e16, sfi_same]
    · show h16.ai (x + 16) s = 0
      rw [ai16]
  -- the rounds
  refine xlp_cnt 97 (fun k q U => ShW U.c o x z L A g ind ∧ ShB U.c x (A.g.shK k) k ∧ Fr (fun _ a => x ≤ a) h.c U.c ∧ bz q ∧ (k = 0 → q = 1) ∧ (1 ≤ k → ((A.g.shK k).mu = false → ((A.g.shK k).nw = true ↔ q = 1)) ∧ U.fi 1407 x = I (sN (A.g.shK (if (A.g.shK k).cr = 0 then k else (A.g.shK k).cr)).mn 8)) ∧ (∀ j, 1 ≤ j → j < k → (A.g.shK j).on false) ∧ h.rc ≤ U.rc + (17 + 13 * k) ∧ h.rs ≤ U.rs + (285 + 388 * k)) ⟨S, B, F16, .inr rfl, fun _ => rfl, fun hh => absurd hh (by decide), fun j h1 h2 => by omega, by omega, by omega⟩ ?_
  rintro k q U K hk ⟨SU, BU, FU, bq, b0, b1, bo, uc, us⟩ hK
  -- at the end
  have fin : 1 ≤ k → ¬ (A.g.shK k).on false → Q U := by
    intro k1 hno
    have eE : A.g.shE false = k := Gv.shE_eq ⟨k1, hno, bo⟩
    refine hQ U FU ⟨SU.k, by have := SU.l; omega, SU.f2, SU.k4, by have := SU.l; omega, ?_, ?_, ?_, ?_, fun s hs => ?_⟩
    · rw [eE]; exact BU.r4
    · rw [eE]; exact BU.r5
    · rw [eE]; exact BU.r6
    · have e7 := (b1 k1).2
      rw [eE] at w1
      have : A.g.shE true = if (A.g.shK k).cr = 0 then k else (A.g.shK k).cr := by
        rcases w1 with ⟨y1, y2⟩ | ⟨y1, y2⟩
        · rw [if_pos y1]; exact y2
        · rw [if_neg y1]; exact y2
      rw [this]; exact e7
    · rw [eE]; exact BU.mn s hs
  by_cases e0 : q = 0
  · refine brT e0 (fin ?_ ?_)
    · rcases Nat.eq_zero_or_pos k with e | e
      · have := b0 e; rw [e0] at this; exact absurd this (by decide)
      · exact e
    · intro hon
      rcases Nat.eq_zero_or_pos k with e | e
      · have := b0 e; rw [e0] at this; exact absurd this (by decide)
      · have := ((b1 e).1 hon.2.1).1 hon.1
        rw [e0] at this; exact absurd this (by decide)
  have e1 : q = 1 := by rcases bq with e | e; exact absurd e e0; exact e
  refine brF e0 ⟨nn_of rfl SU.k, ?_⟩
  have r6 : U.fi 1406 x = if (A.g.shK k).mu then I k else -1 := BU.r6
  rw [r6]
  cases hm : (A.g.shK k).mu with
  | true =>
    rw [if_pos rfl]
    refine brT (by rw [show (0 : Int32) = I 0 from rfl]; exact (I_le (by decide) (by omega)).2 (Nat.zero_le _)) (fin ?_ ?_)
    · rcases Nat.eq_zero_or_pos k with e | e
      · rw [e] at hm; exact absurd (show false = true from hm) (by simp)
      · exact e
    · intro hon
      rw [hon.2.1] at hm
      exact absurd hm (by simp)
  | false =>
    rw [if_neg (by simp)]
    have hon : 1 ≤ k → (A.g.shK k).on false := fun k1 => ⟨((b1 k1).1 hm).2 e1, hm, .inl rfl⟩
    have k97 : k < 97 := by
      rcases Nat.lt_or_ge k 97 with l | l
      · exact l
      · -- it would not have ended
        have hle : A.g.shE false ≤ 97 := w4
        have h1 : 1 ≤ A.g.shE false := by omega
        obtain ⟨kk, hk97, hE⟩ := Gv.shE_ex W false
        have := hE.2.1
        rcases Nat.lt_or_ge kk k with l2 | l2
        · exact absurd (bo kk hE.1 l2) this
        · have e9 : kk = k := by omega
          rw [e9] at this
          exact absurd (hon (by omega)) this
    refine brF (by decide) ⟨13, 388, ⟨by omega, by omega⟩, ?_⟩
    refine px_goes14 (h := U.srm 13 388) SU BU hm k97 (Nat.le_refl _) (Nat.le_refl _) ?_
    intro fl h23 u eu S23 B23 f7 F23 bf nf h24 e24
    have eK : u = A.g.shK (k + 1) := eu
    rw [eK] at B23 nf
    have S24 : ShW h24.c o x z L A g ind := by rw [e24]; exact S23
    have B24 : ShB h24.c x (A.g.shK (k + 1)) (k + 1) := by rw [e24]; exact B23
    have F24 : Fr (fun _ a => x ≤ a) h.c h24.c := by
      rw [e24]
      refine FU.trans' F23 (fun f a _ hh => ?_)
      unfold WSa at hh
      omega
    have f7' : h24.fi 1407 x = U.fi 1407 x := by rw [e24]; exact f7
    have c24 : h24.rc = U.rc - 13 := by rw [e24]; rfl
    have s24 : h24.rs = U.rs - 388 := by rw [e24]; rfl
    have bo' : ∀ j, 1 ≤ j → j < k + 1 → (A.g.shK j).on false := fun j j1 j2 => by
      by_cases e : j = k
      · rw [e]; exact hon (by omega)
      · exact bo j j1 (by omega)
    have r5 : h24.fi 1405 x = if (A.g.shK (k + 1)).cr = 0 then -1 else I (A.g.shK (k + 1)).cr := B24.r5
    have r4 : h24.fi 1404 x = I (k + 1) := B24.r4
    have hcb := B24.cb
    have tell : ∀ h34 : AH, h34 = h24.sfi 1407 x (I (sN (A.g.shK (k + 1)).mn 8)) → ((A.g.shK (k + 1)).cr = 0 ∨ (A.g.shK (k + 1)).cr = k + 1) → K fl h34 := by
      intro h34 e34 hcr
      have Fx : Fr (fun f a => f = 1407 ∧ a = x) h24.c h34.c := by rw [e34]; exact (Fr.refl _).sfi _ (fun _ => ⟨rfl, rfl⟩)
      have fi : ∀ f, f ≠ 1407 → h34.fi f x = h24.fi f x := fun f hf => by rw [e34]; exact sfi_ne _ _ _ _ hf
      have ai : h34.ai = h24.ai := by rw [e34]; rfl
      refine hK _ _ (by omega) ⟨S24.keep Fx (fun f a hh => .inl ⟨hh.2, by omega, by omega⟩), ⟨(fi _ (by decide)).trans B24.r4, (fi _ (by decide)).trans B24.r5, (fi _ (by decide)).trans B24.r6, fun s hs => ?_, fun s k hs hk => ?_, B24.b, B24.rb, B24.cb⟩, F24.trans' Fx (fun f a _ hh => by show x ≤ a; omega), bf, fun hh => by omega, fun _ => ⟨nf, ?_⟩, bo', ?_, ?_⟩
      · show h34.ai _ _ = _
        rw [ai]; exact B24.mn s hs
      · show h34.ai _ _ = _
        rw [ai]; exact B24.sh s k hs hk
      · rw [e34, sfi_same]
        by_cases e : (A.g.shK (k + 1)).cr = 0
        · rw [if_pos e]
        · rw [if_neg e]
          rcases hcr with y | y
          · exact absurd y e
          · rw [y]
      · rw [e34]; show _ ≤ h24.rc + _; omega
      · rw [e34]; show _ ≤ h24.rs + _; omega
    refine ⟨nn_of rfl S24.k, ?_⟩
    rw [r5]
    by_cases ec : (A.g.shK (k + 1)).cr = 0
    · rw [if_pos ec]
      refine brT (by decide) (px_all14 (h := h24.srm 0 0) S24 B24 (pu ⟨nn_of rfl S24.k, ?_⟩))
      intro h34 e34
      exact tell h34 e34 (.inl ec)
    · rw [if_neg ec, r4]
      refine brF (I_nonneg (by omega)) ?_
      by_cases ed : (A.g.shK (k + 1)).cr = k + 1
      · refine brT (by rw [ed]) (px_all14 (h := h24.srm 0 0) S24 B24 (pu ⟨nn_of rfl S24.k, ?_⟩))
        intro h34 e34
        exact tell h34 e34 (.inr ed)
      · refine brF (fun hh => ed ((I_eq (by omega) (by omega)).1 hh)) ?_
        -- told before
        have st : CrU (k + 1) (A.g.shK k) (A.g.shK (k + 1)) := Gv.shRd_cr (k + 1) (A.g.shK k)
        have ecr : (A.g.shK (k + 1)).cr = (A.g.shK k).cr := by
          rcases st with y | ⟨_, y⟩
          · exact y
          · exact absurd y ed
        have k1 : 1 ≤ k := by
          rcases Nat.eq_zero_or_pos k with e | e
          · rw [e] at ecr
            rw [e] at ec
            exact absurd (ecr.trans (show (A.g.shK 0).cr = 0 from rfl)) ec
          · exact e
        have e7 := (b1 k1).2
        refine hK _ _ (by omega) ⟨S24, B24, F24, bf, fun hh => by omega, fun _ => ⟨nf, ?_⟩, bo', by omega, by omega⟩
        rw [f7', e7, ecr, if_neg (by rw [← ecr]; exact ec), if_neg (by rw [← ecr]; exact ec)]
/-- over the writing of shades. -/
theorem TrX.keep4 {c c' : HC} (K : TrX c L A V gv o z D i B tu un s ga v) (F : Fr (fun f a => f = 104 ∧ a = o) c c') : TrX c' L A V gv o z D i B tu un s ga v := by
  have R := K.R.I.K.R
  have Tr := K.R.I.Tr
  refine ⟨K.R.keep5 F (fun f a hh => .inl ⟨by omega, by omega, by omega⟩), fun k a hk ha => by rw [F.ai _ (R.nd k hk).vl (fun hh => by omega)]; exact K.Va k a hk ha, by rw [F.ai _ Tr.l1 (fun hh => by omega), F.ai _ Tr.l2 (fun hh => by omega)]; exact K.N, K.dv, K.ij, by rw [F.fr _ _ R.xl (fun hh => by omega)]; exact K.fi, by rw [F.fr _ _ R.tl (fun hh => by omega)]; exact K.rt, K.rn, K.rm, K.z1, K.z2⟩
theorem shNow : ShNow := by
  intro h o jn tpa X A ind P R hg hc hs hP
  have ol := R.B.l
  obtain ⟨g, L, z, hsh, a1, a2, a3, a4, a5, a6⟩ := R.g1 A ind hg
  unfold wp_X0_shadesNow
  refine ⟨R.B.nn, ?_⟩
  have f4 : h.fr 104 o = hsh.map Prod.fst := a4.1
  rw [f4]
  cases hsh with
  | some q =>
    obtain ⟨x, sm⟩ := q
    exact brF (by simp) (hP h x sm R f4 (a4.2 x sm rfl))
  | none =>
    refine brT rfl ⟨⟨by omega, by omega⟩, ?_⟩
    intro h3 e3
    have F3 : Fr W0 h.c h3.c := by rw [e3]; exact (Fr.refl _).new _ _ _
    have z3 : h3.sz = h.sz + 1 := by rw [e3]; rfl
    have c3 : h3.rc = h.rc - 1 := by rw [e3]; rfl
    have s3 : h3.rs = h.rs - 9 := by rw [e3]; rfl
    have ol' : o < h.sz := ol
    obtain ⟨x, ex⟩ : ∃ x, x = h.sz := ⟨_, rfl⟩
    rw [← ex] at z3 ol' ⊢
    obtain ⟨M, hM⟩ : ∃ M, M = 1290 := ⟨_, rfl⟩
    obtain ⟨N, hN⟩ : ∃ N, N = 38000 := ⟨_, rfl⟩
    have k3 : (h3.kd x).1 = 14 := by rw [e3, ex]; show (if h.sz = h.sz then (14, 0) else _ : Nat × Nat).1 = 14; rw [if_pos rfl]
    have i4 : h3.fi 1404 x = 0 := by rw [e3, ex]; exact if_pos rfl
    have ko : (h3.kd o).1 = 1 := by
      have : h3.kd o = h.kd o := F3.kd o ol
      rw [this]; exact R.B.k
    have fg : h3.fr 103 o = some g := by
      have : h3.fr 103 o = h.fr 103 o := F3.fr 103 o ol id
      rw [this]; exact a1
    have zx : z ≤ x := by rw [ex]; exact a2.2
    refine ⟨M, N, ⟨by omega, by omega⟩, px_init14 (h := h3.srm M N) k3 z3 ol' ko fg zx (a3.kc a2.2 F3 (fun _ _ _ hh => hh.elim)) i4 (by show _ ≤ M; omega) (by show _ ≤ N; omega) ?_⟩
    intro h5 F5 SR h6 e6
    have F6 : Fr W0 h.c h6.c := by
      have F56 : Fr (fun _ a => x ≤ a) h3.c h6.c := by rw [e6]; exact F5
      refine F3.trans' F56 (fun f a ha hh => ?_)
      have h1 : a < h.sz := ha
      have h2 : x ≤ a := hh
      omega
    have SR6 : ShR h6.c x (x + 16) A.g := by rw [e6]; exact SR
    have R6 : CRep h6.c o jn tpa X := R.w0 F6
    refine ⟨R6.B.nn, ?_⟩
    intro h11 e11
    have f11 : h11.fr 104 o = some x := by rw [e11]; exact sfr_same _ _ _ _
    have F7 : Fr (fun f a => f = 104 ∧ a = o) h6.c h11.c := by rw [e11]; exact (Fr.refl _).sfr _ (fun _ => ⟨rfl, rfl⟩)
    have SR11 : ShR h11.c x (x + 16) A.g := SR6.keep F7 (fun f _ _ hh => by omega) (fun hh => by omega)
    have FF : Fr (fun f a => f = 104 ∧ a = o) h.c h11.c := (F6.mono (fun _ _ _ hh => hh.elim)).trans F7
    rw [f11]
    refine hP h11 x (x + 16) ?_ f11 SR11
    refine ⟨R.ok, R.B.keep FF (fun hh => by omega) (fun hh => by omega) (fun hh => by omega), ?_, R.Z.keep FF (fun f a hh => by rw [hh.2]; exact R.B.b), R.J.keep FF, R.CI.keep FF (fun hh => by omega) (fun a hh => by omega), ?_, fun hn => by rw [hg] at hn; simp at hn, fun A' ind' hg' => ?_, fun ht => ?_⟩
    · refine ⟨by rw [FF.fi _ _ ol (fun hh => by omega)]; exact R.Y.n, by rw [FF.ai _ R.B.t3 (fun hh => by omega)]; exact R.Y.tt, by rw [FF.fi _ _ ol (fun hh => by omega)]; exact R.Y.st, by rw [FF.fi _ _ ol (fun hh => by omega)]; exact R.Y.fk, by rw [FF.fi _ _ ol (fun hh => by omega)]; exact R.Y.fp⟩
    · have := R.lz
      have hb := FF.bs
      have hz := FF.sz
      unfold HC.lo at *
      rw [hb]
      exact Nat.le_trans this hz
    · have e : (A, ind) = (A', ind') := Option.some.inj (hg.symm.trans hg')
      obtain ⟨rfl, rfl⟩ := Prod.mk.inj e
      refine ⟨g, L, z, some (x, x + 16), by rw [FF.fr _ _ ol (fun hh => by omega)]; exact a1, ⟨by have := a2.1; have hb := FF.bs; unfold HC.lo at *; rw [hb]; exact this, Nat.le_trans a2.2 FF.sz⟩, a3.kc a2.2 FF (fun f a _ hh => .inl (.inl ⟨by omega, by omega⟩)), ⟨f11, fun x' sm' he => ?_⟩, fun ht => by rw [FF.fr _ _ ol (fun hh => by omega)]; exact a5 ht, fun V sz gv ht => ?_⟩
      · obtain ⟨rfl, rfl⟩ := Prod.mk.inj (Option.some.inj he)
        exact SR11
      · obtain ⟨D, i, B, tu, un, s, ga, v, T, _⟩ := a6 V sz gv ht
        refine ⟨D, i, B, tu, un, s, ga, v, T.keep4 FF, fun x' sm' he k hk => ?_⟩
        obtain ⟨rfl, rfl⟩ := Prod.mk.inj (Option.some.inj he)
        have : D.va k < h.sz := (T.R.I.K.R.nd k hk).vl
        omega
    · rw [FF.fi _ _ ol (fun hh => by omega), FF.fi _ _ ol (fun hh => by omega)]
      exact R.an ht
end
