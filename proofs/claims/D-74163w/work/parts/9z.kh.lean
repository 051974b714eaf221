/-! plain: kh -/
set_option maxRecDepth 100000
section
variable {h : AH} {lo q o jn tpa : Nat} {tp : Nat → Nat} {n : Nat} {t : Tk} {L L' : GA} {A A' : PG} {ow ow' : Nat → Nat} {z0 g : Nat}

def GA.addS (L : GA) (s a nl nd nm si sv sd sm : Nat) : GA := (L.g, L.sl, sd, sm, L.pl, L.pd, L.pm, updN L.sa s a, L.pa, updN L.nl s nl, updN L.nd s nd, updN L.nm s nm, updN L.si s si, updN L.sv s sv, L.ql, L.qd, L.qm, L.pr, L.pk, L.po, L.pp)
def owS (ow : Nat → Nat) (s a nl nd si sv sd : Nat) : Nat → Nat := fun x => if x = a then tg 0 s else if x = nl then tg 1 s else if x = nd then tg 2 s else if x = si then tg 3 s else if x = sv then tg 4 s else if x = sd then tg 13 0 else ow x
/-- a symbol more. -/
theorem GB.addS {c0 c c' : HC} {a nl nd nm si sv k i sd sm : Nat} {an : Nat → List Nat} {w : List Nat} (B0 : GB c0 L A ow z0 g) (hz : z0 ≤ c0.sz) (F : Fr (WG lo q) c0 c) (N : NwS c a nl nd nm si sv k an w (I i) c0.sz) (hi : i ≤ 4) (hik : i ≤ k) (hk : k ≤ i + 4) (h8 : A.g.nS < 8)
    (F2 : Fr (WL L.sl L.sd) c c') (Lx : Ls c' L.sl sd sm (A.g.nS + 1) (updN L.sa A.g.nS a)) (hm : 1 ≤ sm) (hd : sd = L.sd ∨ sd = c.sz) : GB c' (L.addS A.g.nS a nl nd nm si sv sd sm) (A.addS w i k an) (owS ow A.g.nS a nl nd si sv sd) z0 g := by
  have zz := N.z
  have sz1 : c0.sz ≤ c.sz := F.sz
  have sz2 : c.sz ≤ c'.sz := F2.sz
  have B1 := B0.go F
  have slt : L.sl < c0.sz := B0.s2.al
  have sdt : L.sd < c0.sz := B0.s2.dl
  obtain ⟨x, Ln, Nn⟩ := N.ls
  have ka := N.k
  have knl : (c.kd nl).1 = 23 := Ln.k
  have knd : (c.kd nd).1 = 44 := by rw [Ln.dk]
  have ksi : (c.kd si).1 = 40 := by rw [N.i2]
  have ksv : (c.kd sv).1 = 40 := by rw [N.v2]
  have ndl := Ln.dl
  have nll := Ln.al
  have ne : ∀ {a b u v : Nat}, (c.kd a).1 = u → (c.kd b).1 = v → u ≠ v → a ≠ b := fun h1 h2 h3 e => h3 (by rw [← h1, ← h2, e])
  -- old marks stay
  have ho : ∀ x, x < c0.sz → owS ow A.g.nS a nl nd si sv sd x = ow x := by
    intro x hx
    unfold owS
    rw [if_neg (by omega), if_neg (by omega), if_neg (by omega), if_neg (by omega), if_neg (by omega)]
    by_cases e : x = sd
    · rw [if_pos e]
      rcases hd with e' | e'
      · rw [e, e']; exact B0.o2.symm
      · omega
    · rw [if_neg e]
  have hsd : owS ow A.g.nS a nl nd si sv sd sd = tg 13 0 := by
    rcases hd with e | e
    · rw [e, ← B0.o2]; rw [e] at ho; exact ho _ sdt
    · unfold owS
      have := N.l
      have := N.i3
      have := N.v3
      rw [if_neg (by omega), if_neg (by omega), if_neg (by omega), if_neg (by omega), if_neg (by omega), if_pos rfl]
  have hoa : owS ow A.g.nS a nl nd si sv sd a = tg 0 A.g.nS := by unfold owS; rw [if_pos rfl]
  have honl : owS ow A.g.nS a nl nd si sv sd nl = tg 1 A.g.nS := by unfold owS; rw [if_neg (ne knl ka (by decide)), if_pos rfl]
  have hond : owS ow A.g.nS a nl nd si sv sd nd = tg 2 A.g.nS := by unfold owS; rw [if_neg (ne knd ka (by decide)), if_neg (ne knd knl (by decide)), if_pos rfl]
  have hosi : owS ow A.g.nS a nl nd si sv sd si = tg 3 A.g.nS := by unfold owS; rw [if_neg (ne ksi ka (by decide)), if_neg (ne ksi knl (by decide)), if_neg (ne ksi knd (by decide)), if_pos rfl]
  have hosv : owS ow A.g.nS a nl nd si sv sd sv = tg 4 A.g.nS := by unfold owS; rw [if_neg (ne ksv ka (by decide)), if_neg (ne ksv knl (by decide)), if_neg (ne ksv knd (by decide)), if_neg (fun e => N.d e.symm), if_pos rfl]
  have nW : ∀ f b, f ≠ 0 → f < 2300 ∨ 2302 < f → ¬ WL L.sl L.sd f b := by
    intro f b h1 h2 hw
    rcases hw with ⟨_, e⟩ | ⟨e, _⟩ <;> omega
  have sdk : (c.kd L.sd).1 = 44 := by rw [B1.s2.dk]
  have nb : ∀ v, (c.kd v).1 ≠ 44 → ¬ WL L.sl L.sd 0 v := by
    rintro v hv (⟨_, e⟩ | ⟨_, e⟩)
    · omega
    · rw [e] at hv; exact hv sdk
  have n2 : ∀ f b, b ≠ L.sl → b ≠ L.sd → ¬ WL L.sl L.sd f b := by
    rintro f b h1 h2 (⟨e, _⟩ | ⟨_, e⟩)
    · exact h1 e
    · exact h2 e
  refine ⟨by rw [F2.kd _ B1.l]; exact B1.k, Nat.lt_of_lt_of_le B1.l F2.sz, by rw [F2.fr _ _ B1.l (nW _ _ (by decide) (by decide))]; exact B1.s1, Lx, hm, by rw [F2.fr _ _ B1.l (nW _ _ (by decide) (by decide))]; exact B1.p1, ?_, B1.p3, by rw [F2.fi _ _ B1.l (nW _ _ (by decide) (by decide))]; exact B1.b1, by rw [F2.fi _ _ B1.l (nW _ _ (by decide) (by decide))]; exact B1.b2, ?_, ?_, ?_, hsd, ?_, ?_, ?_, addS_WF B0.W h8 hi hik hk, addS_RL B0.Y⟩
  · have e1 : L.pl ≠ L.sl := ow_ne B0.o3 B0.o1 (tg_ne (by decide) (by decide) (.inl (by decide)))
    have e2 : L.pd ≠ L.sd := ow_ne B0.o4 B0.o2 (tg_ne (by decide) (by decide) (.inl (by decide)))
    exact B1.p2.keep F2 (by rintro (⟨e, _⟩ | ⟨e, _⟩); exact e1 e; omega) (by rintro (⟨e, _⟩ | ⟨e, _⟩); exact e1 e; omega) (by rintro (⟨_, e⟩ | ⟨_, e⟩); omega; exact e2 e)
  · intro s hs
    have hs' : s < A.g.nS + 1 := hs
    by_cases es : s = A.g.nS
    · subst es
      have N2 := N.keep F2 (fun f b hh => nW f b (by omega) (by omega)) (n2 _ _ (by omega) (by omega)) (n2 _ _ (by omega) (by omega)) (n2 _ _ (by omega) (by omega)) (n2 _ _ (by omega) (by omega)) (fun v hv => nb v (by rw [hv]; decide))
      obtain ⟨y, L2, M2⟩ := N2.ls
      have e1 : (L.addS A.g.nS a nl nd nm si sv sd sm).sa A.g.nS = a := updN_same _ _ _
      have e2 : (L.addS A.g.nS a nl nd nm si sv sd sm).nl A.g.nS = nl := updN_same _ _ _
      have e3 : (L.addS A.g.nS a nl nd nm si sv sd sm).nd A.g.nS = nd := updN_same _ _ _
      have e4 : (L.addS A.g.nS a nl nd nm si sv sd sm).nm A.g.nS = nm := updN_same _ _ _
      have e5 : (L.addS A.g.nS a nl nd nm si sv sd sm).si A.g.nS = si := updN_same _ _ _
      have e6 : (L.addS A.g.nS a nl nd nm si sv sd sm).sv A.g.nS = sv := updN_same _ _ _
      have f1 : (A.addS w i k an).g.cnt A.g.nS = k := updN_same _ _ _
      have f2 : (A.addS w i k an).g.ins A.g.nS = i := updN_same _ _ _
      have f3 : (A.addS w i k an).sn A.g.nS = w := updN_same _ _ _
      have f4 : (A.addS w i k an).an A.g.nS = an := updN_same _ _ _
      refine ⟨⟨by rw [e1]; exact N2.k, by rw [e1]; exact N2.l, by rw [e1, e2]; exact N2.nf, by rw [e2]; exact L2.k, by rw [e2]; exact L2.al, by rw [e2, f1]; exact L2.sz, by rw [e1, f2]; exact N2.is, by rw [e1, e5]; exact N2.i1, by rw [e5]; exact N2.i2, by rw [e5]; exact N2.i3, by rw [e1, e6]; exact N2.v1, by rw [e6]; exact N2.v2, by rw [e6]; exact N2.v3⟩, by rw [e1, f3]; exact N2.w, by rw [e2, e3, e4, f1, f4]; exact ⟨y, L2, M2⟩, by rw [e5]; exact N2.i4, by rw [e1]; exact hoa, by rw [e2]; exact honl, by rw [e3]; exact hond, by rw [e5]; exact hosi, by rw [e6]; exact hosv⟩
    · have hs2 : s < A.g.nS := by omega
      have S0 := (B0.sy s hs2).eqv (L' := L.addS A.g.nS a nl nd nm si sv sd sm) (A' := A.addS w i k an) (ow' := owS ow A.g.nS a nl nd si sv sd) (updN_ne _ _ es) (updN_ne _ _ es) (updN_ne _ _ es) (updN_ne _ _ es) (updN_ne _ _ es) (updN_ne _ _ es) (updN_ne _ _ es) (updN_ne _ _ es) (updN_ne _ _ es) (updN_ne _ _ es) ho
      have S1 := S0.keep F (fun f b hh hw => by have := hw.fl; omega) (fun hw => by have := hw.fl; omega) (fun hw => by have := hw.fl; omega) (fun hw => by have := hw.fl; omega) (fun hw => by have := hw.fl; omega) (fun v _ hw => by have := hw.fl; omega)
      have osl := ho _ slt
      rw [B0.o1] at osl
      have osd := ho _ sdt
      rw [B0.o2] at osd
      have d1 := ow_ne S1.o2 osl (tg_ne (by decide) (by decide) (.inl (by decide)))
      have d2 := ow_ne S1.o3 osd (tg_ne (by decide) (by decide) (.inl (by decide)))
      exact S1.keep F2 (fun f b hh => nW f b (by omega) (by omega)) (by rintro (⟨e, _⟩ | ⟨e, _⟩); exact d1 e; omega) (by rintro (⟨e, _⟩ | ⟨e, _⟩); exact d1 e; omega) (by rintro (⟨_, e⟩ | ⟨_, e⟩); omega; exact d2 e) (nb _ (by rw [S1.R.i2]; decide)) (fun v hv => nb v (by rw [hv]; decide))
  · intro p hp
    have hp' : p < A.g.nP := hp
    have S0 := (B0.pr p hp').eqv (L' := L.addS A.g.nS a nl nd nm si sv sd sm) (A' := A.addS w i k an) (ow' := owS ow A.g.nS a nl nd si sv sd) rfl rfl rfl rfl rfl rfl rfl rfl rfl (fun j hj => addS_sy B0.W hp' hj _ _) (fun _ => rfl) rfl ho
    have S1 := S0.keep F (fun f b hh hw => by have := hw.fl; omega) (fun hw => by have := hw.fl; omega) (fun hw => by have := hw.fl; omega) (fun hw => by have := hw.fl; omega) (fun hw => by have := hw.fl; omega) (fun hw => by have := hw.fl; omega) (fun hw => by have := hw.fl; omega) (fun v _ hw => by have := hw.fl; omega)
    have osl := ho _ slt
    rw [B0.o1] at osl
    have osd := ho _ sdt
    rw [B0.o2] at osd
    have d1 := ow_ne S1.o2 osl (tg_ne (by decide) (by decide) (.inl (by decide)))
    have d2 := ow_ne S1.o3 osd (tg_ne (by decide) (by decide) (.inl (by decide)))
    exact S1.keep F2 (fun f b hh => nW f b (by omega) (by omega)) (by rintro (⟨e, _⟩ | ⟨e, _⟩); exact d1 e; omega) (by rintro (⟨e, _⟩ | ⟨e, _⟩); exact d1 e; omega) (by rintro (⟨_, e⟩ | ⟨_, e⟩); omega; exact d2 e) (nb _ (by rw [S1.R.k2]; decide)) (nb _ (by rw [S1.u2]; decide)) (nb _ (by rw [S1.w2]; decide)) (fun v hv => nb v (by rw [hv]; decide))
  · exact (ho _ slt).trans B0.o1
  · exact (ho _ B0.p2.al).trans B0.o3
  · exact (ho _ B0.p2.dl).trans B0.o4
  · intro x hx
    rcases Nat.lt_or_ge x c0.sz with l | l
    · rw [ho x l] at hx
      exact B0.z x hx
    · omega

/-- a symbol's object is made. -/
theorem px_symInit {a wa wv : Nat} {w : List Nat} (hk : (h.kd a).1 = 6) (ha : a < h.sz) (hz : h.fi 602 a = 0) (S : StR h.c wa wv w) (hc : 4 ≤ h.rc) (hs : 21 ≤ h.rs) {Q : AH → Prop} {z : Nat} (hza : z ≤ a)
    (hQ : ∀ h' nl nd nm si sv, Fr (fun f b => b = a ∧ 600 ≤ f ∧ f < 700) h.c h'.c → NwS h'.c a nl nd nm si sv 0 (fun _ => []) w 0 z → Q h') : wp_X5_init a (some wa) h Q := by
  unfold wp_X5_init
  refine ⟨⟨by omega, by omega⟩, ?_⟩
  intro h1 e1
  have F1 : Fr (fun f b => b = a ∧ 600 ≤ f ∧ f < 700) h.c h1.c := by rw [e1]; exact (Fr.refl _).new _ _ _
  have z1 : h1.sz = h.sz + 1 := by rw [e1]; rfl
  have r1 : h1.rc = h.rc - 1 ∧ h1.rs = h.rs - 3 := by rw [e1]; exact ⟨rfl, rfl⟩
  have k1 : (h1.kd h.sz).1 = 23 := by rw [e1, new_kd, if_pos rfl]
  have y1 : h1.fi 2302 h.sz = 0 := by rw [e1, new_fi, if_pos rfl]
  refine ⟨1, 2, ⟨by omega, by omega⟩, ?_⟩
  refine pc_initL (h := h1.srm 1 2) (n := 2) k1 (by show h.sz < h1.sz; omega) y1 (by decide) (by decide) (Nat.le_refl _) (Nat.le_refl _) ?_
  intro h3 F3 L3 s3 _ _ h4 e4
  have c4 : h4.c = h3.c := by rw [e4]; rfl
  have F4 : Fr (fun f b => b = h.sz ∧ (f = 2300 ∨ f = 2301)) h1.c h4.c := by rw [c4]; exact F3
  have s4 : h4.sz = h1.sz + 1 := by rw [e4]; exact s3
  have r4 : h4.rc = h.rc - 2 ∧ h4.rs = h.rs - 5 := by
    rw [e4]
    show h1.rc - 1 = _ ∧ h1.rs - 2 = _
    omega
  have L4 : ∀ x, Ls h4.c h.sz h1.sz 2 0 x := fun x => by rw [c4]; exact L3 x
  have F4' : Fr (fun f b => b = a ∧ 600 ≤ f ∧ f < 700) h.c h4.c := F1.trans' F4 (fun f b hb hh => by have h9 : b < h.sz := hb; have := hh.1; omega)
  have k4 : (h4.kd a).1 = 6 := by
    show (h4.c.kd a).1 = 6
    rw [F4'.kd a ha]; exact hk
  refine ⟨nn_of rfl k4, ?_⟩
  intro h9 e9
  have F9 : Fr (fun f b => b = a ∧ 600 ≤ f ∧ f < 700) h.c h9.c := by rw [e9]; exact F4'.sfr _ (fun _ => ⟨rfl, by decide, by decide⟩)
  have r9 : h9.rc = h.rc - 2 ∧ h9.rs = h.rs - 5 := by rw [e9]; exact r4
  have s9 : h9.sz = h.sz + 2 := by rw [e9]; show h4.sz = _; omega
  have n8 : ni 8 = 8 := rfl
  refine ⟨⟨by decide, by rw [n8]; decide, by rw [n8]; exact ⟨by omega, by omega⟩⟩, ?_⟩
  rw [n8]
  intro h10 e10
  have F10 : Fr (fun f b => b = a ∧ 600 ≤ f ∧ f < 700) h.c h10.c := by rw [e10]; exact F9.new _ _ _
  have k10 : (h10.kd a).1 = 6 := by show (h10.c.kd a).1 = 6; rw [F10.kd a ha]; exact hk
  refine ⟨nn_of rfl k10, ?_⟩
  intro h12 e12
  have F12 : Fr (fun f b => b = a ∧ 600 ≤ f ∧ f < 700) h.c h12.c := by rw [e12]; exact F10.sfr _ (fun _ => ⟨rfl, by decide, by decide⟩)
  have r12 : h12.rc = h.rc - 3 ∧ h12.rs = h.rs - 13 := by
    rw [e12, e10]
    show h9.rc - 1 = _ ∧ h9.rs - 8 = _
    omega
  have s12 : h12.sz = h.sz + 3 := by rw [e12, e10]; show h9.sz + 1 = _; omega
  refine ⟨⟨by decide, by rw [n8]; decide, by rw [n8]; exact ⟨by omega, by omega⟩⟩, ?_⟩
  intro h13 e13
  have F13 : Fr (fun f b => b = a ∧ 600 ≤ f ∧ f < 700) h.c h13.c := by rw [e13]; exact F12.new _ _ _
  have k13 : (h13.kd a).1 = 6 := by show (h13.c.kd a).1 = 6; rw [F13.kd a ha]; exact hk
  refine ⟨nn_of rfl k13, ?_⟩
  intro h15 e15 h16 e16
  have F15 : Fr (fun f b => b = a ∧ 600 ≤ f ∧ f < 700) h.c h15.c := by rw [e15]; exact F13.sfr _ (fun _ => ⟨rfl, by decide, by decide⟩)
  have F16 : Fr (fun f b => b = a ∧ 600 ≤ f ∧ f < 700) h.c h16.c := by rw [e16]; exact F15.sfr _ (fun _ => ⟨rfl, by decide, by decide⟩)
  have s13 : h13.sz = h.sz + 4 := by rw [e13]; show h12.sz + 1 = _; omega
  have s16 : h16.sz = h.sz + 4 := by rw [e16, e15]; exact s13
  -- from the list on
  have G49 : Fr (fun f b => b = a ∧ 600 ≤ f ∧ f < 700) h4.c h9.c := by rw [e9]; exact (Fr.refl _).sfr _ (fun _ => ⟨rfl, by decide, by decide⟩)
  have G10 : Fr (fun f b => b = a ∧ 600 ≤ f ∧ f < 700) h4.c h10.c := by rw [e10]; exact G49.new _ _ _
  have G12 : Fr (fun f b => b = a ∧ 600 ≤ f ∧ f < 700) h4.c h12.c := by rw [e12]; exact G10.sfr _ (fun _ => ⟨rfl, by decide, by decide⟩)
  have G13 : Fr (fun f b => b = a ∧ 600 ≤ f ∧ f < 700) h4.c h13.c := by rw [e13]; exact G12.new _ _ _
  have G16 : Fr (fun f b => b = a ∧ 600 ≤ f ∧ f < 700) h4.c h16.c := by rw [e16, e15]; exact (G13.sfr _ (fun _ => ⟨rfl, by decide, by decide⟩)).sfr _ (fun _ => ⟨rfl, by decide, by decide⟩)
  have M16 : Fr (fun f b => b = a ∧ 600 ≤ f ∧ f < 700) h10.c h16.c := by
    have m1 : Fr (fun f b => b = a ∧ 600 ≤ f ∧ f < 700) h10.c h12.c := by rw [e12]; exact (Fr.refl _).sfr _ (fun _ => ⟨rfl, by decide, by decide⟩)
    have m2 : Fr (fun f b => b = a ∧ 600 ≤ f ∧ f < 700) h10.c h13.c := by rw [e13]; exact m1.new _ _ _
    rw [e16, e15]; exact (m2.sfr _ (fun _ => ⟨rfl, by decide, by decide⟩)).sfr _ (fun _ => ⟨rfl, by decide, by decide⟩)
  have V16 : Fr (fun f b => b = a ∧ 600 ≤ f ∧ f < 700) h13.c h16.c := by
    rw [e16, e15]; exact ((Fr.refl _).sfr _ (fun _ => ⟨rfl, by decide, by decide⟩)).sfr _ (fun _ => ⟨rfl, by decide, by decide⟩)
  have L16 : Ls h16.c h.sz h1.sz 2 0 (fun _ => 0) := (L4 _).keep G16 (fun hh => by have := hh.1; omega) (fun hh => by have := hh.1; omega) (fun hh => by have := hh.2; omega)
  have s10 : h10.sz = h.sz + 3 := by rw [e10]; show h9.sz + 1 = _; omega
  refine hQ h16 h.sz h1.sz 2 h9.sz h12.sz F16 ⟨by rw [F16.kd a ha]; exact hk, by show a < h16.sz; omega, ?_, ⟨_, L16, fun i hi => absurd hi (Nat.not_lt_zero _)⟩, by decide, ?_, ?_, ?_, by show h9.sz < h16.sz; omega, ?_, ?_, ?_, by show h12.sz < h16.sz; omega, ⟨wa, wv, ?_, S.keep F16 (fun hh => ?_) (fun hh => ?_) (fun hh => by have := hh.2; omega)⟩, ⟨hza, by omega, by omega, by omega, by omega⟩, by omega⟩
  · show h16.fr 601 a = _
    rw [e16, sfr_ne _ _ _ _ (by decide), e15, sfr_ne _ _ _ _ (by decide), e13, new_fr, if_neg (by omega), e12, sfr_ne _ _ _ _ (by decide), e10, new_fr, if_neg (by omega), e9, sfr_same]
  · show h16.fi 602 a = 0
    rw [e16, sfr_fi, e15, sfr_fi, e13, new_fi, if_neg (by omega), e12, sfr_fi, e10, new_fi, if_neg (by omega), e9, sfr_fi]
    show h4.c.fi 602 a = 0
    rw [F4.fi 602 a (by show a < h1.sz; omega) (fun hh => by have := hh.1; omega)]
    show h1.fi 602 a = 0
    rw [e1, new_fi, if_neg (by omega)]; exact hz
  · show h16.fr 603 a = _
    rw [e16, sfr_ne _ _ _ _ (by decide), e15, sfr_ne _ _ _ _ (by decide), e13, new_fr, if_neg (by omega), e12, sfr_same]
  · rw [M16.kd _ (by show h9.sz < h10.sz; omega)]
    show h10.kd h9.sz = _
    rw [e10, new_kd, if_pos rfl]
  · intro j _
    rw [M16.ai _ (by show h9.sz < h10.sz; omega) (fun hh => by have := hh.2; omega)]
    show h10.ai h9.sz j = 0
    rw [e10, new_ai, if_pos rfl]
  · show h16.fr 604 a = _
    rw [e16, sfr_ne _ _ _ _ (by decide), e15, sfr_same]
  · rw [V16.kd _ (by show h12.sz < h13.sz; omega)]
    show h13.kd h12.sz = _
    rw [e13, new_kd, if_pos rfl]
  · show h16.fr 600 a = _
    rw [e16, sfr_same]
  · have h9 := S.k
    have h8 := hk
    rw [← hh.1] at h8
    rw [show (h.c.kd wa).1 = (h.kd wa).1 from rfl, h8] at h9
    exact absurd h9 (by decide)
  · have h9 := S.k
    have h8 := hk
    rw [← hh.1] at h8
    rw [show (h.c.kd wa).1 = (h.kd wa).1 from rfl, h8] at h9
    exact absurd h9 (by decide)
end
