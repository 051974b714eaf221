/-! plain: uc -/
set_option maxRecDepth 100000
section
variable {h : AH} {o x z g : Nat} {L : GA} {A : PG} {ind : Nat → Int32}

/-- shades between two rounds. -/
def ShB (c : HC) (x : Nat) (t : SSt) (r : Nat) : Prop :=
  (c.fi 1404 x = I r) ∧
  (c.fi 1405 x = if t.cr = 0 then -1 else I t.cr) ∧
  (c.fi 1406 x = if t.mu then I r else -1) ∧
  (∀ s, s < 8 → c.ai (x + 16) s = I (t.mn s)) ∧
  (∀ s k, s < 8 → k < t.mn s → c.ai (x + 2 + s) k = t.sh s k) ∧
  (∀ s, t.mn s ≤ 12) ∧
  (r ≤ 97) ∧
  (t.cr ≤ r)
theorem ShB.r4 {c : HC} {x : Nat} {t : SSt} {r : Nat} (h9 : ShB c x t r) : c.fi 1404 x = I r := h9.1
theorem ShB.r5 {c : HC} {x : Nat} {t : SSt} {r : Nat} (h9 : ShB c x t r) : c.fi 1405 x = if t.cr = 0 then -1 else I t.cr := h9.2.1
theorem ShB.r6 {c : HC} {x : Nat} {t : SSt} {r : Nat} (h9 : ShB c x t r) : c.fi 1406 x = if t.mu then I r else -1 := h9.2.2.1
theorem ShB.mn {c : HC} {x : Nat} {t : SSt} {r : Nat} (h9 : ShB c x t r) : ∀ s, s < 8 → c.ai (x + 16) s = I (t.mn s) := h9.2.2.2.1
theorem ShB.sh {c : HC} {x : Nat} {t : SSt} {r : Nat} (h9 : ShB c x t r) : ∀ s k, s < 8 → k < t.mn s → c.ai (x + 2 + s) k = t.sh s k := h9.2.2.2.2.1
theorem ShB.b {c : HC} {x : Nat} {t : SSt} {r : Nat} (h9 : ShB c x t r) : ∀ s, t.mn s ≤ 12 := h9.2.2.2.2.2.1
theorem ShB.rb {c : HC} {x : Nat} {t : SSt} {r : Nat} (h9 : ShB c x t r) : r ≤ 97 := h9.2.2.2.2.2.2.1
theorem ShB.cb {c : HC} {x : Nat} {t : SSt} {r : Nat} (h9 : ShB c x t r) : t.cr ≤ r := h9.2.2.2.2.2.2.2
theorem ShD.sb {c : HC} {t : SSt} {r : Nat} {ah : Nat → Nat} (D : ShD c x t r ah) : ShB c x t r := ⟨D.r4, D.r5, D.r6, D.mn, D.sh, D.b, D.rb.2, D.cb⟩

theorem px_goes14 (S : ShW h.c o x z L A g ind) {t : SSt} {r : Nat} (B : ShB h.c x t r) (hm : t.mu = false) (h97 : r < 97) (hc : 13 ≤ h.rc) (hs : 388 ≤ h.rs) {Q : Int32 → AH → Prop}
    (hQ : ∀ fl h' u, u = A.g.shRd (r + 1) t → ShW h'.c o x z L A g ind → ShB h'.c x u (r + 1) → h'.fi 1407 x = h.fi 1407 x → Fr (WSa x) h.c h'.c → bz fl → (u.mu = false → (u.nw = true ↔ fl = 1)) → Q fl h') : wp_X14_goes x h Q := by
  have hl : x + 18 ≤ h.sz := S.l
  unfold wp_X14_goes
  refine ⟨nn_of rfl S.k, ?_⟩
  intro h2 e2
  have r4 : h.fi 1404 x = I r := B.r4
  rw [r4, show I r + 1 = I (r + 1) from I_add r 1] at e2
  have F2 : Fr (WSa x) h.c h2.c := by rw [e2]; exact (Fr.refl _).sfi _ (fun _ => .inl ⟨rfl, by decide, by decide⟩)
  have S2 := S.keep F2 (fun f a hh => hh)
  have fi2 : ∀ f, f ≠ 1404 → h2.fi f x = h.fi f x := fun f hf => by rw [e2]; exact sfi_ne _ _ _ _ hf
  have fi4 : h2.fi 1404 x = I (r + 1) := by rw [e2]; exact sfi_same _ _ _ _
  have ai2 : h2.ai = h.ai := by rw [e2]; rfl
  have g2 : h2.fr 1402 x = some (x + 16) := S2.f2
  have g3 : h2.fr 1403 x = some (x + 17) := S2.f3
  have k4 : h2.kd (x + 16) = (40, 8) := S2.k4
  have k5 : h2.kd (x + 17) = (40, 8) := S2.k5
  rw [g2, g3, adr_some, adr_some, show ni 0 = 0 from rfl, show ni 8 = 8 from rfl]
  refine ⟨⟨_, _, rfl, rfl, by rw [k4], by rw [k5], by decide, by decide, by decide, by rw [k4]; decide, by rw [k5]; decide⟩, ?_⟩
  intro h3 e3
  have F23 : Fr (WSa x) h2.c h3.c := by rw [e3]; exact (Fr.refl _).wai _ (fun _ => .inr (.inl ⟨rfl, by omega, by omega⟩))
  have S3 := S2.keep F23 (fun f a hh => hh)
  have F3 : Fr (WSa x) h.c h3.c := F2.trans F23
  have fi3 : h3.fi = h2.fi := by rw [e3]; rfl
  have a17 : h3.ai (x + 17) = va_cpy (h2.ai (x + 16)) (h2.ai (x + 17)) 0 0 8 := by rw [e3]; exact if_pos rfl
  have aio : ∀ b, b ≠ x + 17 → h3.ai b = h.ai b := fun b hb => by rw [e3]; exact (if_neg hb).trans (by rw [ai2])
  obtain ⟨t0, ht0⟩ : ∃ t0, t0 = SSt.mk t.mn t.sh t.cr t.mu false := ⟨_, rfl⟩
  have D3 : ShD h3.c x t0 (r + 1) t.mn := by
    rw [ht0]
    refine ⟨?_, ?_, ?_, fun s hs => ?_, fun s k hs hk => ?_, fun s hs => ?_, B.b, fun s => Nat.le_refl _, ⟨by omega, by omega⟩, Nat.le_succ_of_le B.cb⟩
    · show h3.fi 1404 x = _
      rw [fi3]; exact fi4
    · show h3.fi 1405 x = _
      rw [fi3, fi2 _ (by decide)]; exact B.r5
    · show h3.fi 1406 x = if t.mu then I (r + 1) else -1
      have := B.r6
      rw [hm] at this ⊢
      rw [fi3, fi2 _ (by decide)]
      exact this
    · show h3.ai (x + 16) s = _
      rw [aio _ (by omega)]; exact B.mn s hs
    · show h3.ai (x + 2 + s) k = _
      rw [aio _ (by omega)]; exact B.sh s k hs hk
    · show h3.ai (x + 17) s = _
      rw [a17, cpy0 hs, ai2]; exact B.mn s hs
  have C := S3.cg
  have W := C.W
  have hnP := W.nP
  have f8 : h3.fr 1408 x = some o := S3.f8
  have fg : h3.fr 103 o = some g := S3.fg
  have f4 : h3.fr 401 g = some L.pl := C.X.O.p1
  have l3 : x + 18 ≤ h3.sz := S3.l
  have c3 : h3.rc = h.rc := by rw [e3, e2]; rfl
  have s3 : h3.rs = h.rs := by rw [e3, e2]; rfl
  have zx := S3.zx
  have pdl : L.pd < x := by
    have : L.pd < z := S3.C.X.O.p2.dl
    omega
  have pll : L.pl < x := by
    have : L.pl < z := S3.C.X.O.p2.al
    omega
  rw [f8, adr_some, fg, adr_some, f4, adr_some]
  refine ⟨nn_of rfl S3.ok, nn_of rfl C.X.O.k, nn_of rfl C.X.O.p2.k, ?_⟩
  obtain ⟨Fp, hFp⟩ : ∃ Fp : Nat → SSt → SSt, Fp = fun p t' => if (A.g.kn p = 0 ↔ r + 1 = 1) then A.g.shCh p (r + 1) t.mn (A.g.kn p) 1 (fun _ => 0) t' else t' := ⟨_, rfl⟩
  have Fup : ∀ p t', SUp t' (Fp p t') := fun p t' => by
    rw [hFp]
    show SUp t' (if (A.g.kn p = 0 ↔ r + 1 = 1) then _ else _)
    split
    · exact Gv.shCh_up _ _ _ _ _ _ _
    · exact SUp.refl _
  have eRd : A.g.shRd (r + 1) t = itN Fp A.g.nP t0 := by
    rw [hFp, ht0]; rfl
  refine eachW C.X.O.p2 (by omega) (by omega) (WS x 0) (fun i q U => ∃ u, u = itN Fp i t0 ∧ Fr (WS x 0) h3.c U.c ∧ ShD U.c x u (r + 1) t.mn ∧ Fg q t0 u ∧ h.rc ≤ U.rc + (1 + i) ∧ h.rs ≤ U.rs + (4 + 32 * i)) ⟨fun f b hf hh => by unfold WS at hh; omega, fun hh => by unfold WS at hh; omega, fun hh => by unfold WS at hh; omega, fun hh => by unfold WS at hh; omega, fun hh => by unfold WS at hh; omega⟩ ?_ ?_ ?_ ?_
  · intro h6 F6 z6 c6 s6
    exact ⟨t0, rfl, F6.mono (fun _ _ _ hh => hh.elim), D3.keep l3 F6 (fun _ _ _ => id) (fun _ _ => id) id id, Fg.refl t0, by omega, by omega⟩
  · rintro i q U U' ⟨u, eu, F, D, fl, c1, c2⟩ FU uc us usz
    have lU : x + 18 ≤ U.sz := Nat.le_trans l3 F.sz
    refine ⟨u, eu, F.trans' FU (fun f b hb hh => ?_), D.keep lU FU (fun f _ _ hh => by have := hh.1; omega) (fun s _ hh => by have := hh.2; omega) (fun hh => by have := hh.2; omega) (fun hh => by have := hh.2; omega), fl, by omega, by omega⟩
    have h1 := hh.1
    have h2 : b < h3.sz := hb
    omega
  · rintro q U ⟨u, eu, F, D, fl, c1, c2⟩
    have FA : Fr (WSa x) h3.c U.c := F.mono (fun f a _ hh => hh.wa)
    refine ⟨fl.1, hQ q U u (by rw [eRd]; exact eu) (S3.keep F (fun f a hh => hh.wa)) D.sb ?_ (F3.trans FA) fl.1 (fun hmu => ?_)⟩
    · have e9 : U.fi 1407 x = h3.fi 1407 x := F.fi _ _ (by show x < h3.sz; omega) (fun hh => by unfold WS at hh; omega)
      rw [e9, fi3, fi2 _ (by decide)]
    · rw [fl.2 hmu, ht0]
      exact ⟨fun hh => hh.elim (fun e => absurd (show false = true from e) (by simp)) id, .inr⟩
  · rintro p q U K hp ⟨u, eu, F, D, fl, c1, c2⟩ hK
    have SU := S3.keep F (fun f a hh => hh.wa)
    have CU := SU.cg
    have P := CU.X.S.pr p hp
    have lU : x + 18 ≤ U.sz := SU.l
    have r4U : U.fi 1404 x = I (r + 1) := D.r4
    refine ⟨.inr (nn_of rfl P.k), nn_of rfl P.k, ?_⟩
    rw [adr_some]
    refine px_children (h := U.srm 0 0) CU.W hp P (pu ?_)
    rintro m28 e28
    refine ⟨nn_of rfl SU.k, ?_⟩
    rintro m31 e31
    rw [r4U] at e31
    have kn3 := W.kn p hp
    have hiff : (m28 = m31) ↔ (A.g.kn p = 0 ↔ r + 1 = 1) := by
      have q1 : (I (A.g.kn p) = 0) ↔ A.g.kn p = 0 := I_eq (b := 0) (by omega) (by decide)
      have q2 : (I (r + 1) = 1) ↔ r + 1 = 1 := I_eq (b := 1) (by omega) (by decide)
      rw [e28, e31]
      by_cases y1 : A.g.kn p = 0 <;> by_cases y2 : r + 1 = 1
      · rw [if_pos (q1.2 y1), if_pos (q2.2 y2)]; exact iff_of_true rfl (iff_of_true y1 y2)
      · rw [if_pos (q1.2 y1), if_neg (fun hh => y2 (q2.1 hh))]; exact iff_of_false (by decide) (fun hh => y2 (hh.1 y1))
      · rw [if_neg (fun hh => y1 (q1.1 hh)), if_pos (q2.2 y2)]; exact iff_of_false (by decide) (fun hh => y1 (hh.2 y2))
      · rw [if_neg (fun hh => y1 (q1.1 hh)), if_neg (fun hh => y2 (q2.1 hh))]; exact iff_of_true rfl (iff_of_false y1 y2)
    by_cases em : m28 = m31
    rotate_left
    · have e9 : itN Fp (p + 1) t0 = u := by
        show Fp p (itN Fp p t0) = u
        rw [← eu, hFp]
        exact if_neg (fun hh => em (hiff.2 hh))
      exact brF em (hK q U ⟨u, e9.symm, F, D, fl, by omega, by omega⟩ (Fr.refl _))
    have e9 : itN Fp (p + 1) t0 = A.g.shCh p (r + 1) t.mn (A.g.kn p) 1 (fun _ => 0) u := by
      show Fp p (itN Fp p t0) = _
      rw [← eu, hFp]
      exact if_pos (hiff.1 em)
    refine brT em ⟨nn_of rfl P.k, 1, 32, ⟨by omega, by omega⟩, ?_⟩
    refine px_rows (h := U.srm 1 32) (ind := ind) CU.W CU.X.S false false (fun hh => by simp at hh) hp (fun hh => by simp at hh) (Nat.le_refl _) (Nat.le_refl _) ?_
    intro h36 F36 z36 c36 s36 k36 a36 h37 e37
    have F37 : Fr W0 U.c h37.c := by rw [e37]; exact F36
    have S37 := SU.keep F37 (fun _ _ hh => hh.elim)
    have D37 : ShD h37.c x u (r + 1) t.mn := D.keep lU F37 (fun _ _ _ => id) (fun _ _ => id) id id
    have g1 : h37.fr 1401 x = some (x + 10) := S37.f1
    have a1 : h37.ar (x + 10) 1 = some (x + 11 + 1) := S37.a2 1 (by decide)
    have k37 : h37.kd U.sz = (40, 32) := by rw [e37]; exact k36
    have k3 : h37.kd (x + 11 + 1) = (40, 32) := S37.k3 1 (by decide)
    have z37 : h37.sz = U.sz + 1 := by rw [e37]; exact z36
    have a37 : ∀ i, i < 32 → h37.ai U.sz i = A.g.ask p i := fun i hi => by
      have := a36 i hi
      rw [Gv.rowF_ask] at this
      rw [e37]; exact this
    have usz : (U.srm 1 32).sz = U.sz := rfl
    rw [usz, g1, adr_some, show ni 1 = 1 from rfl, a1, adr_some, adr_some, show ni 32 = 32 from rfl]
    refine ⟨nn_of rfl S37.k, ix_of (k := 1) rfl S37.k2 (by decide) (by decide), ⟨_, _, rfl, rfl, by rw [k37], by rw [k3], by decide, by decide, by decide, by rw [k37]; decide, by rw [k3]; decide⟩, ?_⟩
    intro h42 e42
    have Fx : Fr (fun f a => f = 0 ∧ a = x + 11 + 1) h37.c h42.c := by rw [e42]; exact (Fr.refl _).wai _ (fun _ => ⟨rfl, rfl⟩)
    have F42 : Fr (WS x 0) U.c h42.c := (F37.mono (fun _ _ _ hh => hh.elim)).trans (Fx.mono (fun f a _ hh => .inr ⟨hh.1, by omega, by omega, by omega, by omega, by omega⟩))
    have S42 := SU.keep F42 (fun f a hh => hh.wa)
    have D42 : ShD h42.c x u (r + 1) t.mn := D37.keep (by show _ ≤ h37.sz; omega) Fx (fun f _ _ hh => by omega) (fun s hs hh => by omega) (fun hh => by omega) (fun hh => by omega)
    have row42 : ∀ i, i < 32 → h42.ai (x + 11 + 1) i = A.g.ask p i := by
      intro i hi
      have e8 : h42.ai (x + 11 + 1) = va_cpy (h37.ai U.sz) (h37.ai (x + 11 + 1)) 0 0 32 := by rw [e42]; exact if_pos rfl
      rw [e8, cpy0 hi]; exact a37 i hi
    show wp_X14_goes_2 6 x (some (L.pa p)) (I 1) (h42.srm 0 0) _
    refine px_goes2 hp 6 1 (h42.srm 0 0) u (fun _ => 0) _ (by omega) (Nat.le_refl _) (by omega) S42 D42 (fun i hi => by rw [shRC_one]; exact row42 i hi) (fun a a1 a2 => by omega) ?_
    intro fl2 h' u' eu' F' s' c' r' D' g' h45 e45
    rw [show A.g.kn p + 1 - 1 = A.g.kn p by omega] at eu'
    have e10 : u' = Fp p u := by
      rw [eu', hFp]
      exact (if_pos (hiff.1 em)).symm
    have FF : Fr (WS x 0) U.c h45.c := by rw [e45]; exact F42.trans (F'.mono (fun f a _ hh => WS.mono hh (by omega)))
    have cc : h42.rc = U.rc - 1 := by rw [e42, e37]; rfl
    have ss : h42.rs = U.rs - 32 := by rw [e42, e37]; rfl
    refine hK _ h45 ⟨u', by rw [eu', e9], F.trans FF, by rw [e45]; exact D', fl.trans g' ?_, ?_, ?_⟩ FF
    · rw [e10]; exact (Fup p u).mu
    · rw [e45]; show _ ≤ h42.rc + _; omega
    · rw [e45]; show _ ≤ h42.rs + _; omega
end
