/-! plain: kj -/
set_option maxRecDepth 100000
section
variable {h : AH} {lo q o jn tpa : Nat} {tp : Nat → Nat} {n : Nat} {t : Tk} {L L' : GA} {A A' : PG} {ow ow' : Nat → Nat} {z0 g : Nat}

/-- a new row that a field names. -/
def AF (c : HC) (a f x t n : Nat) : Prop :=
  (c.fr f a = some x) ∧
  (c.kd x = (t, n)) ∧
  (x < c.sz) ∧
  (∀ j, c.ai x j = 0) ∧
  (∀ j, c.ar x j = none)
theorem AF.fr {c : HC} {a f x t n : Nat} (h9 : AF c a f x t n) : c.fr f a = some x := h9.1
theorem AF.kd {c : HC} {a f x t n : Nat} (h9 : AF c a f x t n) : c.kd x = (t, n) := h9.2.1
theorem AF.l {c : HC} {a f x t n : Nat} (h9 : AF c a f x t n) : x < c.sz := h9.2.2.1
theorem AF.ai {c : HC} {a f x t n : Nat} (h9 : AF c a f x t n) : ∀ j, c.ai x j = 0 := h9.2.2.2.1
theorem AF.ar {c : HC} {a f x t n : Nat} (h9 : AF c a f x t n) : ∀ j, c.ar x j = none := h9.2.2.2.2
theorem AF.keep {W : Nat → Nat → Prop} {c c' : HC} {a f x t n : Nat} (X : AF c a f x t n) (ha : a < c.sz) (F : Fr W c c') (h1 : ¬ W f a) (h2 : ¬ W 0 x) : AF c' a f x t n :=
  ⟨by rw [F.fr f a ha h1]; exact X.fr, by rw [F.kd x X.l]; exact X.kd, Nat.lt_of_lt_of_le X.l F.sz, by rw [F.ai x X.l h2]; exact X.ai, by rw [F.ar x X.l h2]; exact X.ar⟩
theorem AF.mk1 {h h1 h2 : AH} {a f t n : Nat} (ha : a < h.sz) (e1 : h1 = h.new t n n) (e2 : h2 = h1.sfr f a (some h.sz)) : AF h2.c a f h.sz t n ∧ Fr (fun g b => g = f ∧ b = a) h.c h2.c ∧ h2.sz = h.sz + 1 ∧ h2.rc = h.rc - 1 ∧ h2.rs = h.rs - n := by
  subst e1
  subst e2
  refine ⟨⟨sfr_same _ _ _ _, ?_, Nat.lt_succ_self _, ?_, ?_⟩, ((Fr.refl _).new _ _ _).sfr _ (fun _ => ⟨rfl, rfl⟩), rfl, rfl, rfl⟩
  · show (h.new t n n).kd h.sz = _
    rw [new_kd, if_pos rfl]
  · intro j
    show (h.new t n n).ai h.sz j = _
    rw [new_ai, if_pos rfl]
  · intro j
    show (h.new t n n).ar h.sz j = _
    rw [new_ar, if_pos rfl]
/-- a new list that a field names. -/
theorem lst_new {h h1 h4 h9 : AH} {a f : Nat} {x : Nat → Nat} (ha : a < h.sz) (e1 : h1 = h.new 23 0 3) (F4 : Fr (fun f b => b = h.sz ∧ (f = 2300 ∨ f = 2301)) h1.c h4.c) (s4 : h4.sz = h1.sz + 1) (L4 : Ls h4.c h.sz h1.sz 2 0 x) (e9 : h9 = h4.sfr f a (some h.sz)) (hf : f ≠ 2301 ∧ f ≠ 2302) :
    h9.fr f a = some h.sz ∧ Ls h9.c h.sz (h.sz + 1) 2 0 x ∧ Fr (fun g b => g = f ∧ b = a) h.c h9.c ∧ h9.sz = h.sz + 2 := by
  have z1 : h1.sz = h.sz + 1 := by rw [e1]; rfl
  have F1 : Fr (fun g b => g = f ∧ b = a) h.c h1.c := by rw [e1]; exact (Fr.refl _).new _ _ _
  have F14 : Fr (fun g b => g = f ∧ b = a) h.c h4.c := F1.trans' F4 (fun g b hb hh => by have h9 : b < h.sz := hb; have := hh.1; omega)
  have G9 : Fr (fun g b => g = f ∧ b = a) h4.c h9.c := by rw [e9]; exact (Fr.refl _).sfr _ (fun _ => ⟨rfl, rfl⟩)
  rw [z1] at L4
  refine ⟨by rw [e9]; exact sfr_same _ _ _ _, L4.keep G9 (fun hh => by have := hh.2; omega) (fun hh => by have := hh.2; omega) (fun hh => by have := hh.2; omega), F14.trans G9, by rw [e9]; show h4.sz = _; omega⟩

/-- a production that is being made. -/
def NwP (c : HC) (a ql qd qm m : Nat) (x : Nat → Nat) (pr pk po pp : Nat) (w : List Nat) (z : Nat) : Prop :=
  ((c.kd a).1 = 7) ∧
  (a < c.sz) ∧
  (c.fr 701 a = some ql) ∧
  (Ls c ql qd qm m x) ∧
  (1 ≤ qm) ∧
  (AF c a 702 pr 46 32) ∧
  (AF c a 703 pk 40 32) ∧
  (AF c a 704 po 42 32) ∧
  (AF c a 705 pp 40 104) ∧
  (∃ wa wv, c.fr 700 a = some wa ∧ StR c wa wv w) ∧
  (z ≤ a ∧ z ≤ ql ∧ z ≤ qd ∧ z ≤ pr ∧ z ≤ pk ∧ z ≤ po ∧ z ≤ pp)
theorem NwP.k {c : HC} {a ql qd qm m : Nat} {x : Nat → Nat} {pr pk po pp : Nat} {w : List Nat} {z : Nat} (h9 : NwP c a ql qd qm m x pr pk po pp w z) : (c.kd a).1 = 7 := h9.1
theorem NwP.l {c : HC} {a ql qd qm m : Nat} {x : Nat → Nat} {pr pk po pp : Nat} {w : List Nat} {z : Nat} (h9 : NwP c a ql qd qm m x pr pk po pp w z) : a < c.sz := h9.2.1
theorem NwP.sf {c : HC} {a ql qd qm m : Nat} {x : Nat → Nat} {pr pk po pp : Nat} {w : List Nat} {z : Nat} (h9 : NwP c a ql qd qm m x pr pk po pp w z) : c.fr 701 a = some ql := h9.2.2.1
theorem NwP.ls {c : HC} {a ql qd qm m : Nat} {x : Nat → Nat} {pr pk po pp : Nat} {w : List Nat} {z : Nat} (h9 : NwP c a ql qd qm m x pr pk po pp w z) : Ls c ql qd qm m x := h9.2.2.2.1
theorem NwP.m1 {c : HC} {a ql qd qm m : Nat} {x : Nat → Nat} {pr pk po pp : Nat} {w : List Nat} {z : Nat} (h9 : NwP c a ql qd qm m x pr pk po pp w z) : 1 ≤ qm := h9.2.2.2.2.1
theorem NwP.r {c : HC} {a ql qd qm m : Nat} {x : Nat → Nat} {pr pk po pp : Nat} {w : List Nat} {z : Nat} (h9 : NwP c a ql qd qm m x pr pk po pp w z) : AF c a 702 pr 46 32 := h9.2.2.2.2.2.1
theorem NwP.fk {c : HC} {a ql qd qm m : Nat} {x : Nat → Nat} {pr pk po pp : Nat} {w : List Nat} {z : Nat} (h9 : NwP c a ql qd qm m x pr pk po pp w z) : AF c a 703 pk 40 32 := h9.2.2.2.2.2.2.1
theorem NwP.fo {c : HC} {a ql qd qm m : Nat} {x : Nat → Nat} {pr pk po pp : Nat} {w : List Nat} {z : Nat} (h9 : NwP c a ql qd qm m x pr pk po pp w z) : AF c a 704 po 42 32 := h9.2.2.2.2.2.2.2.1
theorem NwP.s {c : HC} {a ql qd qm m : Nat} {x : Nat → Nat} {pr pk po pp : Nat} {w : List Nat} {z : Nat} (h9 : NwP c a ql qd qm m x pr pk po pp w z) : AF c a 705 pp 40 104 := h9.2.2.2.2.2.2.2.2.1
theorem NwP.w {c : HC} {a ql qd qm m : Nat} {x : Nat → Nat} {pr pk po pp : Nat} {w : List Nat} {z : Nat} (h9 : NwP c a ql qd qm m x pr pk po pp w z) : ∃ wa wv, c.fr 700 a = some wa ∧ StR c wa wv w := h9.2.2.2.2.2.2.2.2.2.1
theorem NwP.z {c : HC} {a ql qd qm m : Nat} {x : Nat → Nat} {pr pk po pp : Nat} {w : List Nat} {z : Nat} (h9 : NwP c a ql qd qm m x pr pk po pp w z) : z ≤ a ∧ z ≤ ql ∧ z ≤ qd ∧ z ≤ pr ∧ z ≤ pk ∧ z ≤ po ∧ z ≤ pp := h9.2.2.2.2.2.2.2.2.2.2
theorem NwP.keep {W : Nat → Nat → Prop} {c c' : HC} {a ql qd qm m pr pk po pp z : Nat} {x : Nat → Nat} {w : List Nat} (N : NwP c a ql qd qm m x pr pk po pp w z) (F : Fr W c c') (hf : ∀ f b, (700 ≤ f ∧ f ≤ 705) ∨ f = 2200 ∨ f = 2201 → ¬ W f b) (h2 : ¬ W 2302 ql) (h3 : ¬ W 2301 ql) (h4 : ¬ W 0 qd) (h5 : ¬ W 0 pr) (h6 : ¬ W 0 pk) (h7 : ¬ W 0 po) (h8 : ¬ W 0 pp) (h9 : ∀ v, (c.kd v).1 = 41 → ¬ W 0 v) : NwP c' a ql qd qm m x pr pk po pp w z := by
  refine ⟨by rw [F.kd _ N.l]; exact N.k, Nat.lt_of_lt_of_le N.l F.sz, by rw [F.fr _ _ N.l (hf _ _ (by omega))]; exact N.sf, N.ls.keep F h2 h3 h4, N.m1, N.r.keep N.l F (hf _ _ (by omega)) h5, N.fk.keep N.l F (hf _ _ (by omega)) h6, N.fo.keep N.l F (hf _ _ (by omega)) h7, N.s.keep N.l F (hf _ _ (by omega)) h8, ?_, N.z⟩
  obtain ⟨wa, wv, e1, e2⟩ := N.w
  exact ⟨wa, wv, by rw [F.fr _ _ N.l (hf _ _ (by omega))]; exact e1, e2.keep F (hf _ _ (by omega)) (hf _ _ (by omega)) (h9 _ (by rw [e2.vk]))⟩
theorem NwP.go {c c' : HC} {a ql qd qm m pr pk po pp z : Nat} {x : Nat → Nat} {w : List Nat} (N : NwP c a ql qd qm m x pr pk po pp w z) (F : Fr (WG lo q) c c') : NwP c' a ql qd qm m x pr pk po pp w z :=
  N.keep F (fun f b hh hw => by have := hw.fl; omega) (fun hw => by have := hw.fl; omega) (fun hw => by have := hw.fl; omega) (fun hw => by have := hw.fl; omega) (fun hw => by have := hw.fl; omega) (fun hw => by have := hw.fl; omega) (fun hw => by have := hw.fl; omega) (fun hw => by have := hw.fl; omega) (fun v _ hw => by have := hw.fl; omega)

theorem px_prodInit {a wa wv : Nat} {w : List Nat} (hk : (h.kd a).1 = 7) (ha : a < h.sz) (S : StR h.c wa wv w) (hc : 6 ≤ h.rc) (hs : 205 ≤ h.rs) {Q : AH → Prop} {z : Nat} (hza : z ≤ a)
    (hQ : ∀ h' ql qd qm pr pk po pp, Fr (fun f b => b = a ∧ 700 ≤ f ∧ f ≤ 705) h.c h'.c → NwP h'.c a ql qd qm 0 (fun _ => 0) pr pk po pp w z → Q h') : wp_X6_init a (some wa) h Q := by
  unfold wp_X6_init
  refine ⟨⟨by omega, by omega⟩, ?_⟩
  intro h1 e1
  have z1 : h1.sz = h.sz + 1 := by rw [e1]; rfl
  have r1 : h1.rc = h.rc - 1 ∧ h1.rs = h.rs - 3 := by rw [e1]; exact ⟨rfl, rfl⟩
  have k1 : (h1.kd h.sz).1 = 23 := by rw [e1, new_kd, if_pos rfl]
  have y1 : h1.fi 2302 h.sz = 0 := by rw [e1, new_fi, if_pos rfl]
  refine ⟨1, 2, ⟨by omega, by omega⟩, ?_⟩
  refine pc_initL (h := h1.srm 1 2) (n := 2) k1 (by show h.sz < h1.sz; omega) y1 (by decide) (by decide) (Nat.le_refl _) (Nat.le_refl _) ?_
  intro h3 F3 L3 s3 _ _ h4 e4
  have c4 : h4.c = h3.c := by rw [e4]; rfl
  have F4 : Fr (fun f b => b = h.sz ∧ (f = 2300 ∨ f = 2301)) h1.c h4.c := by rw [c4]; exact F3
  have s4 : h4.sz = h1.sz + 1 := by rw [e4]; exact s3
  have r4 : h4.rc = h.rc - 2 ∧ h4.rs = h.rs - 5 := by
    rw [e4]
    show h1.rc - 1 = _ ∧ h1.rs - 2 = _
    omega
  have L4 : Ls h4.c h.sz h1.sz 2 0 (fun _ => 0) := by rw [c4]; exact L3 _
  have F04 : Fr W0 h.c h4.c := by
    have f1 : Fr W0 h.c h1.c := by rw [e1]; exact (Fr.refl _).new _ _ _
    exact f1.trans' F4 (fun g b hb hh => by have h9 : b < h.sz := hb; have := hh.1; omega)
  have kk : ∀ {W : Nat → Nat → Prop} {U : AH}, Fr W h.c U.c → (U.kd a).1 = 7 := @fun _ U F => by show (U.c.kd a).1 = _; rw [F.kd a ha]; exact hk
  refine ⟨nn_of rfl (kk F04), ?_⟩
  intro h9 e9
  obtain ⟨f9, L9, F9, s9⟩ := lst_new ha e1 F4 s4 L4 e9 (by decide)
  have r9 : h9.rc = h.rc - 2 ∧ h9.rs = h.rs - 5 := by rw [e9]; exact r4
  have n32 : ni 32 = 32 := rfl
  have n104 : ni 104 = 104 := rfl
  have nl_ : ∀ {U : AH} {k : Nat} {K : Int32}, ni K = k → ¬ K < 0 → k ≤ 100000 → 1 ≤ U.rc → k ≤ U.rs → nl U K := fun e h0 h1 h2 h3 => ⟨h0, by rw [e]; exact h1, by rw [e]; exact ⟨h2, h3⟩⟩
  refine ⟨nl_ n32 (by decide) (by decide) (by omega) (by omega), ?_⟩
  rw [n32]
  intro h10 e10
  have F10 : Fr (fun g b => g = 701 ∧ b = a) h.c h10.c := by rw [e10]; exact F9.new _ _ _
  refine ⟨nn_of rfl (kk F10), ?_⟩
  intro h12 e12
  obtain ⟨A12, G12, s12, c12, q12⟩ := AF.mk1 (show a < h9.sz by omega) e10 e12
  have T12 : Fr (fun f b => b = a ∧ 700 ≤ f ∧ f ≤ 705) h.c h12.c := (F9.mono (fun f b _ hh => by omega)).trans' G12 (fun f b _ hh => by omega)
  refine ⟨nl_ n32 (by decide) (by decide) (by omega) (by omega), ?_⟩
  intro h13 e13
  have F13 : Fr (fun f b => b = a ∧ 700 ≤ f ∧ f ≤ 705) h.c h13.c := by rw [e13]; exact T12.new _ _ _
  refine ⟨nn_of rfl (kk F13), ?_⟩
  intro h15 e15
  obtain ⟨A15, G15, s15, c15, q15⟩ := AF.mk1 (show a < h12.sz by omega) e13 e15
  have T15 := T12.trans' G15 (fun f b _ hh => by omega)
  refine ⟨nl_ n32 (by decide) (by decide) (by omega) (by omega), ?_⟩
  intro h16 e16
  have F16 : Fr (fun f b => b = a ∧ 700 ≤ f ∧ f ≤ 705) h.c h16.c := by rw [e16]; exact T15.new _ _ _
  refine ⟨nn_of rfl (kk F16), ?_⟩
  intro h18 e18
  obtain ⟨A18, G18, s18, c18, q18⟩ := AF.mk1 (show a < h15.sz by omega) e16 e18
  have T18 := T15.trans' G18 (fun f b _ hh => by omega)
  refine ⟨nl_ n104 (by decide) (by decide) (by omega) (by omega), ?_⟩
  rw [n104]
  intro h19 e19
  have F19 : Fr (fun f b => b = a ∧ 700 ≤ f ∧ f ≤ 705) h.c h19.c := by rw [e19]; exact T18.new _ _ _
  refine ⟨nn_of rfl (kk F19), ?_⟩
  intro h21 e21 h22 e22
  obtain ⟨A21, G21, s21, c21, q21⟩ := AF.mk1 (show a < h18.sz by omega) e19 e21
  have T21 := T18.trans' G21 (fun f b _ hh => by omega)
  have G22 : Fr (fun g b => g = 700 ∧ b = a) h21.c h22.c := by rw [e22]; exact (Fr.refl _).sfr _ (fun _ => ⟨rfl, rfl⟩)
  have T22 := T21.trans' G22 (fun f b _ hh => by omega)
  have al : ∀ {U : AH}, h.sz ≤ U.sz → a < U.c.sz := fun hh => by show a < AH.sz _; omega
  have any : ∀ {U V : AH} {k : Nat}, 701 ≤ k ∨ k = 700 → Fr (fun g b => g = k ∧ b = a) U.c V.c → Fr (fun f b => b = a ∧ 700 ≤ f ∧ f ≤ 700 + (k - 700)) U.c V.c := fun hk F => F.mono (fun f b _ hh => by omega)
  have H1 : Fr (fun f b => b = a ∧ (f = 700 ∨ 702 ≤ f ∧ f ≤ 705)) h9.c h22.c := ((((G12.mono (W' := fun f b => b = a ∧ (f = 700 ∨ 702 ≤ f ∧ f ≤ 705)) (fun f b _ hh => by omega)).trans' G15 (fun f b _ hh => by omega)).trans' G18 (fun f b _ hh => by omega)).trans' G21 (fun f b _ hh => by omega)).trans' G22 (fun f b _ hh => by omega)
  have H2 : Fr (fun f b => b = a ∧ (f = 700 ∨ 703 ≤ f ∧ f ≤ 705)) h12.c h22.c := (((G15.mono (W' := fun f b => b = a ∧ (f = 700 ∨ 703 ≤ f ∧ f ≤ 705)) (fun f b _ hh => by omega)).trans' G18 (fun f b _ hh => by omega)).trans' G21 (fun f b _ hh => by omega)).trans' G22 (fun f b _ hh => by omega)
  have H3 : Fr (fun f b => b = a ∧ (f = 700 ∨ 704 ≤ f ∧ f ≤ 705)) h15.c h22.c := ((G18.mono (W' := fun f b => b = a ∧ (f = 700 ∨ 704 ≤ f ∧ f ≤ 705)) (fun f b _ hh => by omega)).trans' G21 (fun f b _ hh => by omega)).trans' G22 (fun f b _ hh => by omega)
  have H4 : Fr (fun f b => b = a ∧ (f = 700 ∨ f = 705)) h18.c h22.c := (G21.mono (W' := fun f b => b = a ∧ (f = 700 ∨ f = 705)) (fun f b _ hh => by omega)).trans' G22 (fun f b _ hh => by omega)
  have wn : wa ≠ a := fun e => by
    have h9 := S.k
    rw [e] at h9
    rw [show (h.c.kd a).1 = (h.kd a).1 from rfl, hk] at h9
    exact absurd h9 (by decide)
  refine hQ h22 h.sz (h.sz + 1) 2 h9.sz h12.sz h15.sz h18.sz T22 ⟨kk T22, by rw [show h22.c.sz = h21.sz by rw [e22]; rfl]; omega, ?_, L9.keep H1 (by omega) (by omega) (by omega), by decide, A12.keep (al (by omega)) H2 (by omega) (by omega), A15.keep (al (by omega)) H3 (by omega) (by omega), A18.keep (al (by omega)) H4 (by omega) (by omega), A21.keep (al (by omega)) G22 (by omega) (by omega), ⟨wa, wv, by rw [e22]; exact sfr_same _ _ _ _, S.keep T22 (by omega) (by omega) (by omega)⟩, ⟨hza, by omega, by omega, by omega, by omega, by omega, by omega⟩⟩
  show h22.c.fr 701 a = _
  rw [H1.fr 701 a (al (by omega)) (by omega)]; exact f9

theorem px_childrenN {a ql qd qm m pr pk po pp z : Nat} {x : Nat → Nat} {w : List Nat} (N : NwP h.c a ql qd qm (m + 1) x pr pk po pp w z) (hm : m < 1000) {Q : Int32 → AH → Prop} (hQ : Q (I m) h) : wp_X6_children a h Q := by
  have sf : h.fr 701 a = some ql := N.sf
  refine ⟨nn_of rfl N.k, nn_of sf N.ls.k, ?_⟩
  rw [sf, adr_some]
  refine pc_size (h := h.srm 0 0) N.ls (pu ?_)
  rw [show I (m + 1) - 1 = I m from (I_sub (a := m + 1) (b := 1) (by omega)).trans (by rw [Nat.add_sub_cancel])]
  exact hQ

def GA.addP (L : GA) (p a ql qd qm pr pk po pp pd pm : Nat) : GA := (L.g, L.sl, L.sd, L.sm, L.pl, pd, pm, L.sa, updN L.pa p a, L.nl, L.nd, L.nm, L.si, L.sv, updN L.ql p ql, updN L.qd p qd, updN L.qm p qm, updN L.pr p pr, updN L.pk p pk, updN L.po p po, updN L.pp p pp)
def owP (ow : Nat → Nat) (p a ql qd pr pk po pp pd : Nat) : Nat → Nat := fun x => if x = a then tg 5 p else if x = ql then tg 6 p else if x = qd then tg 7 p else if x = pr then tg 8 p else if x = pk then tg 9 p else if x = po then tg 10 p else if x = pp then tg 11 p else if x = pd then tg 15 0 else ow x
/-- a production more. -/
theorem GB.addP {c0 c c' : HC} {a ql qd qm k pr pk po pp pd pm : Nat} {ks : Nat → Nat} {w : List Nat} (B0 : GB c0 L A ow z0 g) (hz : z0 ≤ c0.sz) (F : Fr (WG lo q) c0 c) (N : NwP c a ql qd qm (k + 1) (fun i => L.sa (ks i)) pr pk po pp w c0.sz) (hk : k ≤ 3) (hks : ∀ i, i ≤ k → ks i < A.g.nS) (h12 : A.g.nP < 12)
    (F2 : Fr (WL L.pl L.pd) c c') (Lx : Ls c' L.pl pd pm (A.g.nP + 1) (updN L.pa A.g.nP a)) (hm : 1 ≤ pm) (hd : pd = L.pd ∨ pd = c.sz) : GB c' (L.addP A.g.nP a ql qd qm pr pk po pp pd pm) (A.addP w k ks) (owP ow A.g.nP a ql qd pr pk po pp pd) z0 g := by
  have zz := N.z
  have sz1 : c0.sz ≤ c.sz := F.sz
  have sz2 : c.sz ≤ c'.sz := F2.sz
  have B1 := B0.go F
  have plt : L.pl < c0.sz := B0.p2.al
  have pdt : L.pd < c0.sz := B0.p2.dl
  have ka := N.k
  have kql : (c.kd ql).1 = 23 := N.ls.k
  have kqd : (c.kd qd).1 = 44 := by rw [N.ls.dk]
  have kpr : (c.kd pr).1 = 46 := by rw [N.r.kd]
  have kpk : (c.kd pk).1 = 40 := by rw [N.fk.kd]
  have kpo : (c.kd po).1 = 42 := by rw [N.fo.kd]
  have kpp : (c.kd pp).1 = 40 := by rw [N.s.kd]
  have npp : pp ≠ pk := fun e => by
    have h1 := N.s.kd
    rw [e, N.fk.kd] at h1
    exact absurd h1 (by decide)
  have ne : ∀ {a b u v : Nat}, (c.kd a).1 = u → (c.kd b).1 = v → u ≠ v → a ≠ b := fun h1 h2 h3 e => h3 (by rw [← h1, ← h2, e])
  have ho : ∀ x, x < c0.sz → owP ow A.g.nP a ql qd pr pk po pp pd x = ow x := by
    intro x hx
    unfold owP
    rw [if_neg (by omega), if_neg (by omega), if_neg (by omega), if_neg (by omega), if_neg (by omega), if_neg (by omega), if_neg (by omega)]
    by_cases e : x = pd
    · rw [if_pos e]
      rcases hd with e' | e'
      · rw [e, e']; exact B0.o4.symm
      · omega
    · rw [if_neg e]
  have hpd : owP ow A.g.nP a ql qd pr pk po pp pd pd = tg 15 0 := by
    rcases hd with e | e
    · rw [e, ← B0.o4]; rw [e] at ho; exact ho _ pdt
    · unfold owP
      have := N.l
      have := N.ls.al
      have := N.ls.dl
      have := N.r.l
      have := N.fk.l
      have := N.fo.l
      have := N.s.l
      rw [if_neg (by omega), if_neg (by omega), if_neg (by omega), if_neg (by omega), if_neg (by omega), if_neg (by omega), if_neg (by omega), if_pos rfl]
  have h1a : owP ow A.g.nP a ql qd pr pk po pp pd a = tg 5 A.g.nP := by unfold owP; rw [if_pos rfl]
  have h2a : owP ow A.g.nP a ql qd pr pk po pp pd ql = tg 6 A.g.nP := by unfold owP; rw [if_neg (ne kql ka (by decide)), if_pos rfl]
  have h3a : owP ow A.g.nP a ql qd pr pk po pp pd qd = tg 7 A.g.nP := by unfold owP; rw [if_neg (ne kqd ka (by decide)), if_neg (ne kqd kql (by decide)), if_pos rfl]
  have h4a : owP ow A.g.nP a ql qd pr pk po pp pd pr = tg 8 A.g.nP := by unfold owP; rw [if_neg (ne kpr ka (by decide)), if_neg (ne kpr kql (by decide)), if_neg (ne kpr kqd (by decide)), if_pos rfl]
  have h5a : owP ow A.g.nP a ql qd pr pk po pp pd pk = tg 9 A.g.nP := by unfold owP; rw [if_neg (ne kpk ka (by decide)), if_neg (ne kpk kql (by decide)), if_neg (ne kpk kqd (by decide)), if_neg (ne kpk kpr (by decide)), if_pos rfl]
  have h6a : owP ow A.g.nP a ql qd pr pk po pp pd po = tg 10 A.g.nP := by unfold owP; rw [if_neg (ne kpo ka (by decide)), if_neg (ne kpo kql (by decide)), if_neg (ne kpo kqd (by decide)), if_neg (ne kpo kpr (by decide)), if_neg (ne kpo kpk (by decide)), if_pos rfl]
  have h7a : owP ow A.g.nP a ql qd pr pk po pp pd pp = tg 11 A.g.nP := by unfold owP; rw [if_neg (ne kpp ka (by decide)), if_neg (ne kpp kql (by decide)), if_neg (ne kpp kqd (by decide)), if_neg (ne kpp kpr (by decide)), if_neg npp, if_neg (ne kpp kpo (by decide)), if_pos rfl]
  have nW : ∀ f b, f ≠ 0 → f < 2300 ∨ 2302 < f → ¬ WL L.pl L.pd f b := by
    intro f b h1 h2 hw
    rcases hw with ⟨_, e⟩ | ⟨e, _⟩ <;> omega
  have pdk : (c.kd L.pd).1 = 44 := by rw [B1.p2.dk]
  have nb : ∀ v, (c.kd v).1 ≠ 44 → ¬ WL L.pl L.pd 0 v := by
    rintro v hv (⟨_, e⟩ | ⟨_, e⟩)
    · omega
    · rw [e] at hv; exact hv pdk
  have n2 : ∀ f b, b ≠ L.pl → b ≠ L.pd → ¬ WL L.pl L.pd f b := by
    rintro f b h1 h2 (⟨e, _⟩ | ⟨_, e⟩)
    · exact h1 e
    · exact h2 e
  refine ⟨by rw [F2.kd _ B1.l]; exact B1.k, Nat.lt_of_lt_of_le B1.l F2.sz, by rw [F2.fr _ _ B1.l (nW _ _ (by decide) (by decide))]; exact B1.s1, ?_, B1.s3, by rw [F2.fr _ _ B1.l (nW _ _ (by decide) (by decide))]; exact B1.p1, Lx, hm, by rw [F2.fi _ _ B1.l (nW _ _ (by decide) (by decide))]; exact B1.b1, by rw [F2.fi _ _ B1.l (nW _ _ (by decide) (by decide))]; exact B1.b2, ?_, ?_, ?_, ?_, ?_, hpd, ?_, addP_WF B0.W h12 hk hks, addP_RL B0.Y⟩
  · have e1 : L.sl ≠ L.pl := ow_ne B0.o1 B0.o3 (tg_ne (by decide) (by decide) (.inl (by decide)))
    have e2 : L.sd ≠ L.pd := ow_ne B0.o2 B0.o4 (tg_ne (by decide) (by decide) (.inl (by decide)))
    exact B1.s2.keep F2 (by rintro (⟨e, _⟩ | ⟨e, _⟩); exact e1 e; omega) (by rintro (⟨e, _⟩ | ⟨e, _⟩); exact e1 e; omega) (by rintro (⟨_, e⟩ | ⟨_, e⟩); omega; exact e2 e)
  · intro s hs
    have hs' : s < A.g.nS := hs
    have S0 := (B0.sy s hs').eqv (L' := L.addP A.g.nP a ql qd qm pr pk po pp pd pm) (A' := A.addP w k ks) (ow' := owP ow A.g.nP a ql qd pr pk po pp pd) rfl rfl rfl rfl rfl rfl rfl rfl rfl rfl ho
    have S1 := S0.keep F (fun f b hh hw => by have := hw.fl; omega) (fun hw => by have := hw.fl; omega) (fun hw => by have := hw.fl; omega) (fun hw => by have := hw.fl; omega) (fun hw => by have := hw.fl; omega) (fun v _ hw => by have := hw.fl; omega)
    have osl := ho _ plt
    rw [B0.o3] at osl
    have osd := ho _ pdt
    rw [B0.o4] at osd
    have d1 := ow_ne S1.o2 osl (tg_ne (by decide) (by decide) (.inl (by decide)))
    have d2 := ow_ne S1.o3 osd (tg_ne (by decide) (by decide) (.inl (by decide)))
    exact S1.keep F2 (fun f b hh => nW f b (by omega) (by omega)) (by rintro (⟨e, _⟩ | ⟨e, _⟩); exact d1 e; omega) (by rintro (⟨e, _⟩ | ⟨e, _⟩); exact d1 e; omega) (by rintro (⟨_, e⟩ | ⟨_, e⟩); omega; exact d2 e) (nb _ (by rw [S1.R.i2]; decide)) (fun v hv => nb v (by rw [hv]; decide))
  · intro p hp
    have hp' : p < A.g.nP + 1 := hp
    by_cases es : p = A.g.nP
    · subst es
      have N2 := N.keep F2 (fun f b hh => nW f b (by omega) (by omega)) (n2 _ _ (by omega) (by omega)) (n2 _ _ (by omega) (by omega)) (n2 _ _ (by omega) (by omega)) (n2 _ _ (by omega) (by omega)) (n2 _ _ (by omega) (by omega)) (n2 _ _ (by omega) (by omega)) (n2 _ _ (by omega) (by omega)) (fun v hv => nb v (by rw [hv]; decide))
      have e1 : (L.addP A.g.nP a ql qd qm pr pk po pp pd pm).pa A.g.nP = a := updN_same _ _ _
      have e2 : (L.addP A.g.nP a ql qd qm pr pk po pp pd pm).ql A.g.nP = ql := updN_same _ _ _
      have e3 : (L.addP A.g.nP a ql qd qm pr pk po pp pd pm).qd A.g.nP = qd := updN_same _ _ _
      have e4 : (L.addP A.g.nP a ql qd qm pr pk po pp pd pm).qm A.g.nP = qm := updN_same _ _ _
      have e5 : (L.addP A.g.nP a ql qd qm pr pk po pp pd pm).pr A.g.nP = pr := updN_same _ _ _
      have e6 : (L.addP A.g.nP a ql qd qm pr pk po pp pd pm).pk A.g.nP = pk := updN_same _ _ _
      have e7 : (L.addP A.g.nP a ql qd qm pr pk po pp pd pm).po A.g.nP = po := updN_same _ _ _
      have e8 : (L.addP A.g.nP a ql qd qm pr pk po pp pd pm).pp A.g.nP = pp := updN_same _ _ _
      have f1 : (A.addP w k ks).g.kn A.g.nP = k := updN_same _ _ _
      have f2 : (A.addP w k ks).g.sy A.g.nP = ks := updN_same _ _ _
      have f3 : ∀ u, (A.addP w k ks).g.rl A.g.nP u = none := fun u => by rw [show (A.addP w k ks).g.rl A.g.nP = fun _ => none from updN_same _ _ _]
      have f4 : (A.addP w k ks).pn A.g.nP = w := updN_same _ _ _
      have fa : ∀ u, (A.addP w k ks).g.ask A.g.nP u = 0 := fun u => by unfold Gv.ask; rw [f3]
      refine ⟨⟨by rw [e1]; exact N2.k, by rw [e1]; exact N2.l, by rw [e1, e2]; exact N2.sf, ?_, by rw [e1, e6]; exact N2.fk.fr, by rw [e6]; exact N2.fk.kd, by rw [e6]; exact N2.fk.l, fun u _ => by rw [e6, fa]; exact N2.fk.ai u⟩, by rw [e1, f4]; exact N2.w, by rw [e1, e8]; exact N2.s.fr, by rw [e8]; exact N2.s.kd, by rw [e8]; exact N2.s.l, by rw [e1, e5]; exact N2.r.fr, by rw [e5]; exact N2.r.kd, by rw [e5]; exact N2.r.l, fun u _ _ => by rw [e5]; exact N2.r.ar u, fun u e _ he => by rw [f3] at he; exact absurd he (by simp), by rw [e1, e7]; exact N2.fo.fr, by rw [e7]; exact N2.fo.kd, by rw [e7]; exact N2.fo.l, fun u _ => by rw [e7, f3]; exact N2.fo.ai u, by rw [e1]; exact h1a, by rw [e2]; exact h2a, by rw [e3]; exact h3a, by rw [e5]; exact h4a, by rw [e6]; exact h5a, by rw [e7]; exact h6a, by rw [e8]; exact h7a⟩
      rw [e2, e3, e4, f1, f2]
      exact N2.ls
    · have hp2 : p < A.g.nP := by omega
      have S0 := (B0.pr p hp2).eqv (L' := L.addP A.g.nP a ql qd qm pr pk po pp pd pm) (A' := A.addP w k ks) (ow' := owP ow A.g.nP a ql qd pr pk po pp pd) (updN_ne _ _ es) (updN_ne _ _ es) (updN_ne _ _ es) (updN_ne _ _ es) (updN_ne _ _ es) (updN_ne _ _ es) (updN_ne _ _ es) (updN_ne _ _ es) (updN_ne _ _ es) (fun j _ => by rw [show (A.addP w k ks).g.sy p = A.g.sy p from updN_ne _ _ es]; rfl) (fun u => by rw [show (A.addP w k ks).g.rl p = A.g.rl p from updN_ne _ _ es]) (updN_ne _ _ es) ho
      have S1 := S0.keep F (fun f b hh hw => by have := hw.fl; omega) (fun hw => by have := hw.fl; omega) (fun hw => by have := hw.fl; omega) (fun hw => by have := hw.fl; omega) (fun hw => by have := hw.fl; omega) (fun hw => by have := hw.fl; omega) (fun hw => by have := hw.fl; omega) (fun v _ hw => by have := hw.fl; omega)
      have osl := ho _ plt
      rw [B0.o3] at osl
      have osd := ho _ pdt
      rw [B0.o4] at osd
      have d1 := ow_ne S1.o2 osl (tg_ne (by decide) (by decide) (.inl (by decide)))
      have d2 := ow_ne S1.o3 osd (tg_ne (by decide) (by decide) (.inl (by decide)))
      exact S1.keep F2 (fun f b hh => nW f b (by omega) (by omega)) (by rintro (⟨e, _⟩ | ⟨e, _⟩); exact d1 e; omega) (by rintro (⟨e, _⟩ | ⟨e, _⟩); exact d1 e; omega) (by rintro (⟨_, e⟩ | ⟨_, e⟩); omega; exact d2 e) (nb _ (by rw [S1.R.k2]; decide)) (nb _ (by rw [S1.u2]; decide)) (nb _ (by rw [S1.w2]; decide)) (fun v hv => nb v (by rw [hv]; decide))
  · exact (ho _ B0.s2.al).trans B0.o1
  · exact (ho _ B0.s2.dl).trans B0.o2
  · exact (ho _ plt).trans B0.o3
  · intro x hx
    rcases Nat.lt_or_ge x c0.sz with l | l
    · rw [ho x l] at hx
      exact B0.z x hx
    · omega
end
