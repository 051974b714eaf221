/-! plain: km -/
set_option maxRecDepth 100000
section
variable {h : AH} {lo q o jn tpa : Nat} {tp : Nat → Nat} {n : Nat} {t : Tk} {L L' : GA} {A A' : PG} {ow ow' : Nat → Nat} {z0 g p : Nat}

/-- what reading of rules writes. -/
def WE (lo q : Nat) : Nat → Nat → Prop := fun f a => lo ≤ a ∧ ((a = q ∧ 301 ≤ f ∧ f ≤ 308) ∨ f = 2202 ∨ f = 2203)
theorem WE.fl {f a : Nat} (hh : WE lo q f a) : (300 ≤ f ∧ f < 400) ∨ f = 2202 ∨ f = 2203 := by
  have := hh.2
  omega
theorem Fr.we {c c' : HC} (F : Fr (WG lo q) c c') : Fr (WE lo q) c c' := F.mono (fun f a _ hh => by
  have h1 := hh.1
  have h2 := hh.2
  exact ⟨h1, by omega⟩)
theorem Fr.we0 {c c' : HC} (F : Fr W0 c c') : Fr (WE lo q) c c' := F.mono (fun f a _ hh => hh.elim)
/-- what joins is there. -/
def NzJ (c : HC) : Prop := ∀ k, k < 8 → c.cs (600 + k) ≠ 0
theorem NzJ.keep {W : Nat → Nat → Prop} {c c' : HC} (Z : NzJ c) (F : Fr W c c') : NzJ c' := fun k hk => by unfold HC.cs; rw [F.bs]; exact Z k hk
/-- a reader of a rule of a production. -/
def ExC (c : HC) (lo q o jn tpa : Nat) (tp : Nat → Nat) (n : Nat) (L : GA) (A : PG) (ow : Nat → Nat) (z0 g p : Nat) (t : Tk) (d pa : Nat) : Prop :=
  (RdK c lo q o jn tpa tp n t) ∧
  (GB c L A ow z0 g) ∧
  (c.fr 309 q = some (L.pa p)) ∧
  (p < A.g.nP) ∧
  (c.fi 303 q = I pa) ∧
  (c.fi 304 q = I d) ∧
  (pa ≤ 24) ∧
  (d ≤ 6) ∧
  (NzJ c)
theorem ExC.K {c : HC} {lo q o jn tpa : Nat} {tp : Nat → Nat} {n : Nat} {L : GA} {A : PG} {ow : Nat → Nat} {z0 g p : Nat} {t : Tk} {d pa : Nat} (h9 : ExC c lo q o jn tpa tp n L A ow z0 g p t d pa) : RdK c lo q o jn tpa tp n t := h9.1
theorem ExC.B {c : HC} {lo q o jn tpa : Nat} {tp : Nat → Nat} {n : Nat} {L : GA} {A : PG} {ow : Nat → Nat} {z0 g p : Nat} {t : Tk} {d pa : Nat} (h9 : ExC c lo q o jn tpa tp n L A ow z0 g p t d pa) : GB c L A ow z0 g := h9.2.1
theorem ExC.P {c : HC} {lo q o jn tpa : Nat} {tp : Nat → Nat} {n : Nat} {L : GA} {A : PG} {ow : Nat → Nat} {z0 g p : Nat} {t : Tk} {d pa : Nat} (h9 : ExC c lo q o jn tpa tp n L A ow z0 g p t d pa) : c.fr 309 q = some (L.pa p) := h9.2.2.1
theorem ExC.hp {c : HC} {lo q o jn tpa : Nat} {tp : Nat → Nat} {n : Nat} {L : GA} {A : PG} {ow : Nat → Nat} {z0 g p : Nat} {t : Tk} {d pa : Nat} (h9 : ExC c lo q o jn tpa tp n L A ow z0 g p t d pa) : p < A.g.nP := h9.2.2.2.1
theorem ExC.f3 {c : HC} {lo q o jn tpa : Nat} {tp : Nat → Nat} {n : Nat} {L : GA} {A : PG} {ow : Nat → Nat} {z0 g p : Nat} {t : Tk} {d pa : Nat} (h9 : ExC c lo q o jn tpa tp n L A ow z0 g p t d pa) : c.fi 303 q = I pa := h9.2.2.2.2.1
theorem ExC.f4 {c : HC} {lo q o jn tpa : Nat} {tp : Nat → Nat} {n : Nat} {L : GA} {A : PG} {ow : Nat → Nat} {z0 g p : Nat} {t : Tk} {d pa : Nat} (h9 : ExC c lo q o jn tpa tp n L A ow z0 g p t d pa) : c.fi 304 q = I d := h9.2.2.2.2.2.1
theorem ExC.m {c : HC} {lo q o jn tpa : Nat} {tp : Nat → Nat} {n : Nat} {L : GA} {A : PG} {ow : Nat → Nat} {z0 g p : Nat} {t : Tk} {d pa : Nat} (h9 : ExC c lo q o jn tpa tp n L A ow z0 g p t d pa) : pa ≤ 24 := h9.2.2.2.2.2.2.1
theorem ExC.d6 {c : HC} {lo q o jn tpa : Nat} {tp : Nat → Nat} {n : Nat} {L : GA} {A : PG} {ow : Nat → Nat} {z0 g p : Nat} {t : Tk} {d pa : Nat} (h9 : ExC c lo q o jn tpa tp n L A ow z0 g p t d pa) : d ≤ 6 := h9.2.2.2.2.2.2.2.1
theorem ExC.J {c : HC} {lo q o jn tpa : Nat} {tp : Nat → Nat} {n : Nat} {L : GA} {A : PG} {ow : Nat → Nat} {z0 g p : Nat} {t : Tk} {d pa : Nat} (h9 : ExC c lo q o jn tpa tp n L A ow z0 g p t d pa) : NzJ c := h9.2.2.2.2.2.2.2.2
theorem ExC.go {c c' : HC} {d pa : Nat} {t' : Tk} (C : ExC c lo q o jn tpa tp n L A ow z0 g p t d pa) (F : Fr (WG lo q) c c') (K' : RdK c' lo q o jn tpa tp n t') : ExC c' lo q o jn tpa tp n L A ow z0 g p t' d pa :=
  ⟨K', C.B.go F, by rw [F.fr 309 q C.K.R.l (by unfold WG; omega)]; exact C.P, C.hp, by rw [F.fi 303 q C.K.R.l (by unfold WG; omega)]; exact C.f3, by rw [F.fi 304 q C.K.R.l (by unfold WG; omega)]; exact C.f4, C.m, C.d6, C.J.keep F⟩
/-- over what writes nothing of the reader or the grammar. -/
theorem ExC.keep {W : Nat → Nat → Prop} {c c' : HC} {d pa : Nat} (C : ExC c lo q o jn tpa tp n L A ow z0 g p t d pa) (F : Fr W c c') (hW : ∀ f a, W f a → c.lo ≤ a ∧ f ≠ 0 ∧ 800 ≤ f ∧ f < 1300 ∧ c.sz ≤ a) : ExC c' lo q o jn tpa tp n L A ow z0 g p t d pa := by
  have F0 : Fr W0 c c' := F.mono (fun f a ha hh => by have := hW f a hh; omega)
  exact ⟨C.K.keep0 F0, C.B.go0 F0, by rw [F0.fr 309 q C.K.R.l id]; exact C.P, C.hp, by rw [F0.fi 303 q C.K.R.l id]; exact C.f3, by rw [F0.fi 304 q C.K.R.l id]; exact C.f4, C.m, C.d6, C.J.keep F⟩
theorem ExC.keep0 {c c' : HC} {d pa : Nat} (C : ExC c lo q o jn tpa tp n L A ow z0 g p t d pa) (F0 : Fr W0 c c') : ExC c' lo q o jn tpa tp n L A ow z0 g p t d pa :=
  ⟨C.K.keep0 F0, C.B.go0 F0, by rw [F0.fr 309 q C.K.R.l id]; exact C.P, C.hp, by rw [F0.fi 303 q C.K.R.l id]; exact C.f3, by rw [F0.fi 304 q C.K.R.l id]; exact C.f4, C.m, C.d6, C.J.keep F0⟩
/-- brackets, parts. -/
theorem ExC.s4 {U V : AH} {d pa d' : Nat} (C : ExC U.c lo q o jn tpa tp n L A ow z0 g p t d pa) (e : V = U.sfi 304 q (I d')) (h6 : d' ≤ 6) : ExC V.c lo q o jn tpa tp n L A ow z0 g p t d' pa ∧ Fr (WE lo q) U.c V.c := by
  have F : Fr (fun f a => f = 304 ∧ a = q) U.c V.c := by rw [e]; exact (Fr.refl _).sfi _ (fun _ => ⟨rfl, rfl⟩)
  have lq := C.K.R.b
  refine ⟨⟨C.K.keep F (fun f a hh => ⟨by omega, .inl ⟨hh.2, by omega⟩⟩), C.B.keepR F (fun f a hh => by omega), by rw [F.fr 309 q C.K.R.l (by omega)]; exact C.P, C.hp, by rw [F.fi 303 q C.K.R.l (by omega)]; exact C.f3, by rw [e]; exact sfi_same _ _ _ _, C.m, h6, C.J.keep F⟩, F.mono (fun f a _ hh => ⟨by rw [← C.K.L]; omega, .inl (by omega)⟩)⟩
theorem ExC.s3 {U V : AH} {d pa pa' : Nat} (C : ExC U.c lo q o jn tpa tp n L A ow z0 g p t d pa) (e : V = U.sfi 303 q (I pa')) (h6 : pa' ≤ 24) : ExC V.c lo q o jn tpa tp n L A ow z0 g p t d pa' ∧ Fr (WE lo q) U.c V.c := by
  have F : Fr (fun f a => f = 303 ∧ a = q) U.c V.c := by rw [e]; exact (Fr.refl _).sfi _ (fun _ => ⟨rfl, rfl⟩)
  have lq := C.K.R.b
  refine ⟨⟨C.K.keep F (fun f a hh => ⟨by omega, .inl ⟨hh.2, by omega⟩⟩), C.B.keepR F (fun f a hh => by omega), by rw [F.fr 309 q C.K.R.l (by omega)]; exact C.P, C.hp, by rw [e]; exact sfi_same _ _ _ _, by rw [F.fi 304 q C.K.R.l (by omega)]; exact C.f4, h6, C.d6, C.J.keep F⟩, F.mono (fun f a _ hh => ⟨by rw [← C.K.L]; omega, .inl (by omega)⟩)⟩
theorem PtR.we {c c' : HC} {d a : Nat} {e : Ex} (X : PtR c d a e) (F : Fr (WE lo q) c c') : PtR c' d a e := X.keep F (fun f b hh hw => by have := hw.fl; omega)
theorem ThR.we {c0 : HC} {u v : Nat} {X : Nat → AH → Prop} {c1 : HC} {e : Fl} (F1 : Fr (WE lo q) c0 c1) (hX : ∀ x h', Fr (WE lo q) c0 h'.c → ThR h'.c x e → X x h') : ∀ x (h' : AH), Fr (WG lo q) c1 h'.c → ThR h'.c x e → ∀ h10, h10 = h'.srm u v → X x h10 := by
  intro x h' F T h10 e10
  have c10 : h10.c = h'.c := by rw [e10]; rfl
  exact hX x h10 (by rw [c10]; exact F1.trans F.we) (by rw [c10]; exact T)
theorem ThR.we' {c0 : HC} {u v : Nat} {X : Nat → AH → Prop} {c1 : HC} {e : Fl} (F1 : Fr (WE lo q) c0 c1) (hX : ∀ x h', Fr (WE lo q) c0 h'.c → ThR h'.c x e → X x h') : ∀ x (h' : AH), Fr (WE lo q) c1 h'.c → ThR h'.c x e → ∀ h10, h10 = h'.srm u v → X x h10 := by
  intro x h' F T h10 e10
  have c10 : h10.c = h'.c := by rw [e10]; rfl
  exact hX x h10 (by rw [c10]; exact F1.trans F) (by rw [c10]; exact T)
theorem thw_in {U : AH} {c0 : HC} {t1 : Tk} {kk : Nat} {k' : Int32} {e : Fl} {u v : Nat} {X : Nat → AH → Prop} (FU : Fr (WE lo q) c0 U.c) (KU : RdK U.c lo q o jn tpa tp n t1) (hkk : kk < 10) (ek : k' = I kk) (et : thK t1 kk = e) (u1 : 1 ≤ U.rc) (u2 : 8 ≤ U.rs) (hX : ∀ x h', Fr (WE lo q) c0 h'.c → ThR h'.c x e → X x h') :
    cl U fun mc ms => wp_X2_wrong q k' (U.srm mc ms) fun r' h11 => ∀ h12, h12 = h11.srm (U.rc - mc) (U.rs - ms) → nn h12 r' 5 ∧ ∀ h10, h10 = h12.srm u v → X (adr r') h10 := by
  refine g_wrong KU hkk ek u1 u2 (X := fun x h12 => ∀ h10, h10 = h12.srm u v → X x h10) ?_
  intro x h' F' T' h10 e10
  have c10 : h10.c = h'.c := by rw [e10]; rfl
  rw [et] at T'
  exact hX x h10 (by rw [c10]; exact FU.trans F'.we0) (by rw [c10]; exact T')

theorem g_opens {d pa : Nat} (C : ExC h.c lo q o jn tpa tp n L A ow z0 g p t d pa) (ht : isSg t 40 = true) (hc : 5 ≤ h.rc) (hs : 68 ≤ h.rs) {P : AH → Prop} {X : Nat → AH → Prop}
    (h1 : d ≠ 6 → ∀ h', Fr (WE lo q) h.c h'.c → ExC h'.c lo q o jn tpa tp n L A ow z0 g p (nxt tp n t) (d + 1) pa → h'.rc = h.rc - 5 → h'.rs = h.rs - 68 → P h') (h0 : d = 6 → ∀ x h', Fr (WE lo q) h.c h'.c → ThR h'.c x (bad t 6) → X x h') :
    cl h fun mc ms => wp_X2_opens q (h.srm mc ms) (fun h3 => ∀ h4, h4 = h3.srm (h.rc - mc) (h.rs - ms) → P h4) (fun q8 h9 => ∀ h10, h10 = h9.srm (h.rc - mc) (h.rs - ms) → X q8 h10) := by
  refine ⟨5, 68, ⟨hc, hs⟩, ?_⟩
  dsimp only
  unfold wp_X2_opens
  have d6 := C.d6
  have k4 : t.kd = 4 := (isSg_iff.1 ht).1
  refine ⟨nn_of rfl C.K.R.k, ?_⟩
  rw [show (h.srm 5 68).fi 304 q = I d from C.f4]
  by_cases e6 : d = 6
  · refine brT (by rw [e6]; rfl) ?_
    exact thw_in (U := h.srm 5 68) (Fr.refl h.c) C.K (kk := 6) (by decide) (by rfl) (thK_bad (by decide) (by omega)) (show 1 ≤ 5 by decide) (show 8 ≤ 68 by decide) (h0 e6)
  refine brF (fun hh => e6 ((I_eq (by omega) (by decide)).1 (show I d = I 6 from hh))) ?_
  rw [show I d + 1 = I (d + 1) from I_add _ 1]
  intro h3 e3
  obtain ⟨C3, F3⟩ := C.s4 (U := h.srm 5 68) e3 (by omega)
  have hb : isB tp n t (ksb 14) ↔ isSg t 40 = true := isB_s C3.K.T.kk (by decide)
  refine g_must C3.K (by decide) hb (by rw [e3]; exact Nat.le_refl _) (by rw [e3]; exact Nat.le_refl _) ?_ ?_
  · intro _ h6 F6 K6 c6 s6 h7 e7
    have c7 : h7.c = h6.c := by rw [e7]; rfl
    refine h1 e6 h7 ?_ ?_ (by rw [e7]; rfl) (by rw [e7]; rfl)
    · rw [c7]; exact Fr.trans F3 F6.we
    · rw [c7]; exact C3.go F6 K6
  · intro hf
    rw [ht] at hf
    exact absurd hf (by decide)
theorem g_counts {d pa : Nat} (C : ExC h.c lo q o jn tpa tp n L A ow z0 g p t d pa) (hc : 1 ≤ h.rc) (hs : 8 ≤ h.rs) {P : AH → Prop} {X : Nat → AH → Prop}
    (h1 : pa ≠ 24 → ∀ h', Fr (WE lo q) h.c h'.c → ExC h'.c lo q o jn tpa tp n L A ow z0 g p t d (pa + 1) → h'.rc = h.rc - 1 → h'.rs = h.rs - 8 → P h') (h0 : pa = 24 → ∀ x h', Fr (WE lo q) h.c h'.c → ThR h'.c x (6, t.fr) → X x h') :
    cl h fun mc ms => wp_X2_counts q (h.srm mc ms) (fun h3 => ∀ h4, h4 = h3.srm (h.rc - mc) (h.rs - ms) → P h4) (fun q8 h9 => ∀ h10, h10 = h9.srm (h.rc - mc) (h.rs - ms) → X q8 h10) := by
  refine ⟨1, 8, ⟨hc, hs⟩, ?_⟩
  dsimp only
  unfold wp_X2_counts
  have m := C.m
  refine ⟨nn_of rfl C.K.R.k, ?_⟩
  rw [show (h.srm 1 8).fi 303 q = I pa from C.f3]
  by_cases e6 : pa = 24
  · refine brT (by rw [e6]; rfl) ?_
    exact thw_in (U := h.srm 1 8) (Fr.refl h.c) C.K (kk := 6) (by decide) (by rfl) (by unfold thK; rw [if_neg (by decide)]) (Nat.le_refl _) (Nat.le_refl _) (h0 e6)
  refine brF (fun hh => e6 ((I_eq (by omega) (by decide)).1 (show I pa = I 24 from hh))) ?_
  rw [show I pa + 1 = I (pa + 1) from I_add _ 1]
  intro h3 e3 h4 e4
  obtain ⟨C3, F3⟩ := C.s3 (U := h.srm 1 8) e3 (by omega)
  have c4 : h4.c = h3.c := by rw [e4]; rfl
  exact h1 e6 h4 (by rw [c4]; exact F3) (by rw [c4]; exact C3) (by rw [e4]; rfl) (by rw [e4]; rfl)
theorem px_childrenP {d pa : Nat} (C : ExC h.c lo q o jn tpa tp n L A ow z0 g p t d pa) {Q : Int32 → AH → Prop} (hQ : Q (I (A.g.kn p)) h) : wp_X6_children (L.pa p) h Q := px_children C.B.W C.hp (C.B.pr p C.hp).R hQ

/-- what an occ is read as. -/
def rOc (tp : Nat → Nat) (n : Nat) (A : PG) (p : Nat) (t : Tk) : Except Fl (Nat × Tk) := if t.kd = 3 then (if t.nu ≤ A.g.kn p then pOc tp n A p t.nu (nxt tp n t) else .error (bad t 3)) else .error (bad t 2)
theorem kd3 {c : HC} (K : RdK c lo q o jn tpa tp n t) : t.kd = 3 ↔ dgt tp n t.fr = true ∧ t.kd ≠ 1 := by
  obtain ⟨fr, ht⟩ := K.T.kk
  rcases tok_cases ht with ⟨hn, e⟩ | ⟨_, _, hd, e⟩ | ⟨_, _, hd, e⟩ | ⟨_, _, hd, e⟩
  · rw [e]
    constructor
    · intro hh; exact absurd (show (0 : Nat) = 3 from hh) (by decide)
    · rintro ⟨hh, _⟩
      have h9 : dgt tp n fr = true := hh
      rw [dgt_n hn] at h9
      exact absurd h9 (by decide)
  · rw [e]
    constructor
    · intro hh
      have h9 : (if 8 < eL tp n fr - fr then 1 else 2) = 3 := hh
      split at h9 <;> omega
    · rintro ⟨hh, _⟩
      have h9 : dgt tp n fr = true := hh
      rw [hd] at h9
      exact absurd h9 (by decide)
  · rw [e]
    show (if 4 < eD tp n fr - fr then 1 else 3) = 3 ↔ dgt tp n fr = true ∧ (if 4 < eD tp n fr - fr then 1 else 3) ≠ 1
    rw [hd]
    split <;> simp
  · rw [e]
    constructor
    · intro hh
      have h9 : (if sgn (tp fr) = true then 4 else 1) = 3 := hh
      split at h9 <;> omega
    · rintro ⟨hh, _⟩
      have h9 : dgt tp n fr = true := hh
      rw [hd] at h9
      exact absurd h9 (by decide)
theorem g_occ {d pa : Nat} (C : ExC h.c lo q o jn tpa tp n L A ow z0 g p t d pa) {r : Except Fl (Nat × Tk)} (er : rOc tp n A p t = r) (hc : 20 ≤ h.rc) (hs : 200 ≤ h.rs) {P : Int32 → AH → Prop} {X : Nat → AH → Prop}
    (h1 : ∀ u t', r = .ok (u, t') → t.kd = 3 → t.nu ≤ A.g.kn p → ∀ h', Fr (WE lo q) h.c h'.c → ExC h'.c lo q o jn tpa tp n L A ow z0 g p t' d pa → h'.rc = h.rc - 20 → h'.rs = h.rs - 200 → P (I u) h') (h0 : ∀ e, r = .error e → ∀ x h', Fr (WE lo q) h.c h'.c → ThR h'.c x e → X x h') :
    cl h fun mc ms => wp_X2_occ q (h.srm mc ms) (fun r h3 => ∀ h4, h4 = h3.srm (h.rc - mc) (h.rs - ms) → P r h4) (fun q8 h9 => ∀ h10, h10 = h9.srm (h.rc - mc) (h.rs - ms) → X q8 h10) := by
  refine ⟨20, 200, ⟨hc, hs⟩, ?_⟩
  dsimp only
  unfold wp_X2_occ
  have W := C.B.W
  have hk3 := W.kn p C.hp
  refine ⟨nn_of rfl C.K.R.k, ?_⟩
  have f8 : (h.srm 20 200).fi 308 q = if t.kd = 1 then 1 else 0 := C.K.T.f8
  have f7 : (h.srm 20 200).fi 307 q = if dgt tp n t.fr then 1 else 0 := C.K.T.f7
  rw [f8, f7]
  unfold rOc at er
  have k3 := kd3 C.K
  by_cases hk : t.kd = 3
  rotate_left
  · rw [if_neg hk] at er
    by_cases hd : dgt tp n t.fr = true
    · have h9 : t.kd = 1 := Classical.byContradiction fun hh => hk (k3.2 ⟨hd, hh⟩)
      rw [if_pos hd, if_pos h9]
      refine brF (by decide) (brF (by decide) ?_)
      refine g_number (h := h.srm 20 200) C.K (show 5 ≤ 20 by decide) (show 68 ≤ 200 by decide) (fun hh => absurd hh hk) ?_
      intro _ x h' F T h10 e10
      have c10 : h10.c = h'.c := by rw [e10]; rfl
      exact h0 _ er.symm x h10 (by rw [c10]; exact F.we0) (by rw [c10]; exact T)
    · rw [if_neg hd]
      refine brT rfl ?_
      refine g_number (h := h.srm 20 200) C.K (show 5 ≤ 20 by decide) (show 68 ≤ 200 by decide) (fun hh => absurd hh hk) ?_
      intro _ x h' F T h10 e10
      have c10 : h10.c = h'.c := by rw [e10]; rfl
      exact h0 _ er.symm x h10 (by rw [c10]; exact F.we0) (by rw [c10]; exact T)
  rw [if_pos hk] at er
  obtain ⟨hd, h9⟩ := k3.1 hk
  rw [if_pos hd, if_neg h9]
  refine brF (by decide) (brT rfl ?_)
  rw [show (h.srm 20 200).fr 309 q = some (L.pa p) from C.P]
  refine ⟨nn_of rfl (C.B.pr p C.hp).R.k, ?_⟩
  rw [adr_some, show (h.srm 20 200).fi 306 q = I t.nu from C.K.T.f6 hd]
  refine px_childrenP (h := (h.srm 20 200).srm 0 0) C ?_
  intro h107 e107
  have e107' : h107 = h.srm 20 200 := by rw [e107]; rfl
  rw [e107']
  have hnu := C.K.it.nu hk
  by_cases hle : t.nu ≤ A.g.kn p
  rotate_left
  · rw [if_neg hle] at er
    refine brF (fun hh => hle ((I_le (by omega) (by omega)).1 hh)) ⟨nn_of rfl C.K.R.k, ?_⟩
    exact thw_in (U := h.srm 20 200) (Fr.refl h.c) C.K (kk := 3) (by decide) (by rfl) (thK_bad (by decide) (by omega)) (show 1 ≤ 20 by decide) (show 8 ≤ 200 by decide) (h0 _ er.symm)
  rw [if_pos hle] at er
  unfold pOc at er
  refine brT ((I_le (by omega) (by omega)).2 hle) ⟨nn_of rfl C.K.R.k, ?_⟩
  refine g_number (h := h.srm 20 200) C.K (show 5 ≤ 20 by decide) (show 68 ≤ 200 by decide) ?_ (fun hh => absurd hk hh)
  intro _ h112 F112 K112 c112 s112
  have F112' : Fr (WG lo q) h.c h112.c := F112
  have C112 := C.go F112' K112
  have c112' : h112.rc = 15 := c112
  have s112' : h112.rs = 132 := s112
  refine ⟨nn_of rfl K112.R.k, ?_⟩
  have hb : isB tp n (nxt tp n t) (ksb 12) ↔ isSg (nxt tp n t) 46 = true := isB_s K112.T.kk (by decide)
  refine g_must K112 (by decide) hb (by omega) (by omega) ?_ ?_
  rotate_left
  · intro hsg x h' F T h10 e10
    rw [if_neg (by rw [hsg]; decide)] at er
    have c10 : h10.c = h'.c := by rw [e10]; rfl
    exact h0 _ er.symm x h10 (by rw [c10]; exact F112'.we.trans F.we0) (by rw [c10]; exact T)
  intro hsg h122 F122 K122 c122 s122
  rw [if_pos hsg] at er
  have C122 := C112.go F122 K122
  refine ⟨nn_of rfl K122.R.k, ?_⟩
  refine g_needsName K122 (by omega) (by omega) ?_ ?_
  rotate_left
  · intro hn
    rw [if_neg (by rw [hn]; decide)] at er
    exact ThR.we (F112'.we.trans F122.we) (h0 _ er.symm)
  intro hn h132 F132 K132 c132 s132
  rw [if_pos hn] at er
  have C132 := C122.go F132 K132
  have FF := (F112'.we.trans F122.we).trans F132.we
  have P132 := C132.B.pr p C.hp
  have hsS := W.sy p t.nu C.hp hle
  have Y := C132.B.sy _ hsS
  have hc8 := W.cnt8 hsS
  obtain ⟨x, Lx, Nx⟩ := Y.n2
  obtain ⟨wa, wv, w1, w2, w3⟩ := K132.T.w0 (by have := isNm_kd hn; omega)
  refine ⟨nn_of rfl K132.R.k, ?_⟩
  rw [show h132.fr 309 q = some (L.pa p) from C132.P]
  refine ⟨nn_of rfl P132.R.k, ?_⟩
  rw [adr_some, show h132.fr 701 (L.pa p) = some (L.ql p) from P132.R.sf]
  refine ⟨nn_of rfl P132.R.sl.k, ?_⟩
  rw [adr_some]
  refine px_sym (h := h132.srm 0 0) P132.R hle (pu ⟨.inr (nn_of rfl Y.R.k), nn_of rfl Y.R.k, nn_of rfl K132.R.k, ?_⟩)
  rw [adr_some, show h132.fr 601 (L.sa (A.g.sy p t.nu)) = some (L.nl (A.g.sy p t.nu)) from Y.R.nf, show h132.fr 305 q = some wa from w1]
  refine ⟨nn_of rfl Y.R.nk, ?_⟩
  rw [adr_some]
  refine pc_indexOfS (h := h132.srm 0 0) Lx Nx w2 (by omega) (pu ?_)
  cases hf : fdN (A.an (A.g.sy p t.nu)) (A.g.cnt (A.g.sy p t.nu)) (wrd tp (nxt tp n (nxt tp n t))) with
  | none =>
    rw [hf] at er
    refine brF neg1_lt0 ⟨nn_of rfl K132.R.k, ?_⟩
    exact thw_in FF K132 (kk := 3) (by decide) (by rfl) (thK_nm (by decide) hn) (by omega) (by omega) (h0 _ er.symm)
  | some a =>
    rw [hf] at er
    have ha := (fdN_some.1 hf).1
    refine brT (zero_le_I (by omega)) ?_
    intro h5 e5
    have c5 : h5.c = h132.c := by rw [e5]; rfl
    show P (8 * I t.nu + I a) h5
    rw [show (8 : Int32) * I t.nu + I a = I (8 * t.nu + a) by rw [L_mul, I_add]]
    exact h1 _ _ er.symm hk hle h5 (by rw [c5]; exact FF) (by rw [c5]; exact C132) (by rw [e5]; rfl) (by rw [e5]; rfl)
end
