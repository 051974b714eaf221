/-! plain: kg -/
set_option maxRecDepth 100000
section
variable {h : AH} {lo q o jn tpa : Nat} {tp : Nat → Nat} {n : Nat} {t : Tk} {L L' : GA} {A A' : PG} {ow ow' : Nat → Nat} {z0 g : Nat}

theorem Ls.congr {c : HC} {a d m k : Nat} {x y : Nat → Nat} (S : Ls c a d m k x) (h : ∀ i, i < k → y i = x i) : Ls c a d m k y :=
  ⟨S.k, S.al, S.sz, S.e, S.dk, S.dl, S.nm, S.mb, fun i hi => by rw [h i hi]; exact S.el i hi⟩
theorem SyR.eqv {c : HC} {G G' : Gv} {s : Nat} (S : SyR c L G s) (e1 : L'.sa s = L.sa s) (e2 : L'.nl s = L.nl s) (e3 : L'.si s = L.si s) (e4 : L'.sv s = L.sv s) (f1 : G'.cnt s = G.cnt s) (f2 : G'.ins s = G.ins s) : SyR c L' G' s :=
  ⟨by rw [e1]; exact S.k, by rw [e1]; exact S.l, by rw [e1, e2]; exact S.nf, by rw [e2]; exact S.nk, by rw [e2]; exact S.nll, by rw [e2, f1]; exact S.nsz, by rw [e1, f2]; exact S.ins, by rw [e1, e3]; exact S.i1, by rw [e3]; exact S.i2, by rw [e3]; exact S.i3, by rw [e1, e4]; exact S.v1, by rw [e4]; exact S.v2, by rw [e4]; exact S.v3⟩
theorem SyN.eqv {c : HC} {s : Nat} (S : SyN c L A ow s) (e1 : L'.sa s = L.sa s) (e2 : L'.nl s = L.nl s) (e3 : L'.nd s = L.nd s) (e4 : L'.nm s = L.nm s) (e5 : L'.si s = L.si s) (e6 : L'.sv s = L.sv s) (f1 : A'.g.cnt s = A.g.cnt s) (f2 : A'.g.ins s = A.g.ins s) (f3 : A'.sn s = A.sn s) (f4 : A'.an s = A.an s)
    (ho : ∀ x, x < c.sz → ow' x = ow x) : SyN c L' A' ow' s := by
  refine ⟨S.R.eqv e1 e2 e5 e6 f1 f2, by rw [e1, f3]; exact S.n1, by rw [e2, e3, e4, f1, f4]; exact S.n2, by rw [e5]; exact S.z, ?_, ?_, ?_, ?_, ?_⟩
  · rw [e1, ho _ S.R.l]; exact S.o1
  · rw [e2, ho _ S.R.nll]; exact S.o2
  · rw [e3]
    obtain ⟨x, X, _⟩ := S.n2
    rw [ho _ X.dl]; exact S.o3
  · rw [e5, ho _ S.R.i3]; exact S.o4
  · rw [e6, ho _ S.R.v3]; exact S.o5
theorem PrN.eqv {c : HC} {p : Nat} (S : PrN c L A ow p) (e1 : L'.pa p = L.pa p) (e2 : L'.ql p = L.ql p) (e3 : L'.qd p = L.qd p) (e4 : L'.qm p = L.qm p) (e5 : L'.pr p = L.pr p) (e6 : L'.pk p = L.pk p) (e7 : L'.po p = L.po p) (e8 : L'.pp p = L.pp p) (f1 : A'.g.kn p = A.g.kn p)
    (f2 : ∀ k, k ≤ A.g.kn p → L'.sa (A'.g.sy p k) = L.sa (A.g.sy p k)) (f3 : ∀ u, A'.g.rl p u = A.g.rl p u) (f4 : A'.pn p = A.pn p) (ho : ∀ x, x < c.sz → ow' x = ow x) : PrN c L' A' ow' p := by
  have fa : ∀ u, A'.g.ask p u = A.g.ask p u := fun u => by unfold Gv.ask; rw [f3]
  refine ⟨⟨by rw [e1]; exact S.R.k, by rw [e1]; exact S.R.l, by rw [e1, e2]; exact S.R.sf, by rw [e2, e3, e4, f1]; exact S.R.sl.congr (fun i hi => f2 i (by omega)), by rw [e1, e6]; exact S.R.k1, by rw [e6]; exact S.R.k2, by rw [e6]; exact S.R.k3, fun u hu => by rw [e6, fa]; exact S.R.k4 u hu⟩,
    by rw [e1, f4]; exact S.n1, by rw [e1, e8]; exact S.q1, by rw [e8]; exact S.q2, by rw [e8]; exact S.q3, by rw [e1, e5]; exact S.u1, by rw [e5]; exact S.u2, by rw [e5]; exact S.u3, fun u hu he => by rw [e5]; rw [f3] at he; exact S.u4 u hu he, fun u e hu he => by rw [e5]; rw [f3] at he; exact S.u5 u e hu he,
    by rw [e1, e7]; exact S.w1, by rw [e7]; exact S.w2, by rw [e7]; exact S.w3, fun u hu => by rw [e7, f3]; exact S.w4 u hu, by rw [e1, ho _ S.R.l]; exact S.o1, by rw [e2, ho _ S.R.sl.al]; exact S.o2, by rw [e3, ho _ S.R.sl.dl]; exact S.o3, by rw [e5, ho _ S.u3]; exact S.o4, by rw [e6, ho _ S.R.k3]; exact S.o5, by rw [e7, ho _ S.w3]; exact S.o6, by rw [e8, ho _ S.q3]; exact S.o7⟩

/-- where a reading ends. -/
def eE {α : Type} (n : Nat) (f : α → Tk) (r : Except Fl α) : Nat := match r with
  | .ok a => (f a).fr
  | .error _ => n + 1
theorem eE_ok {α : Type} {f : α → Tk} {r : Except Fl α} {a : α} (e : r = .ok a) : eE n f r = (f a).fr := by rw [e]; rfl
theorem eE_er {α : Type} {f : α → Tk} {r : Except Fl α} {x : Fl} (e : r = .error x) : eE n f r = n + 1 := by rw [e]; rfl
theorem RdK.le {c : HC} (K : RdK c lo q o jn tpa tp n t) : t.fr ≤ n := by
  obtain ⟨fr, ht⟩ := K.T.kk
  have h1 := tokA_to (tp := tp) (n := n) fr
  rw [← ht] at h1
  have h2 := K.T.l2
  have h3 := h1.1
  have h4 : t.fr = fr := by rw [ht]; exact tokA_fr fr
  omega
theorem RdK.it {c : HC} (K : RdK c lo q o jn tpa tp n t) : isT tp n t := K.T.kk
theorem thK_bad {k : Nat} (hk : k ≠ 2) (hh : t.kd ≠ 1) : thK t k = bad t k := by
  unfold thK bad
  rw [if_neg hk, if_neg hh]

theorem g_add {a d m k v : Nat} {x : Nat → Nat} (X : Ls h.c a d m k x) (O : LsO h.c k x) (h1 : 1 ≤ m) (hn : k ≤ 1000) (hv : v < h.sz) (hk : stk 44 (h.kd v).1 = true) (hc : 1 ≤ h.rc) (hs : grw k ≤ h.rs) {P : AH → Prop}
    (hP : ∀ h' d' m', Fr (WL a d) h.c h'.c → Ls h'.c a d' m' (k + 1) (updN x k v) → 1 ≤ m' → (d' = d ∨ d' = h.sz) → h'.rc = h.rc - 1 → h'.rs = h.rs - grw k → P h') :
    cl h fun mc ms => wp_J12_add a (some v) (h.srm mc ms) fun _ h33 => ∀ h34, h34 = h33.srm (h.rc - mc) (h.rs - ms) → P h34 := by
  refine ⟨1, grw k, ⟨hc, hs⟩, ?_⟩
  dsimp only
  refine pc_add (h := h.srm 1 (grw k)) X O h1 hn hv hk (Nat.le_refl _) (Nat.le_refl _) ?_
  intro h33 d' m' F Y hm hd _ _ h34 e34
  have c34 : h34.c = h33.c := by rw [e34]; rfl
  exact hP h34 d' m' (by rw [c34]; exact F) (by rw [c34]; exact Y) hm hd (by rw [e34]; rfl) (by rw [e34]; rfl)
theorem NmL.O {c : HC} {m : Nat} {x : Nat → Nat} {f : Nat → List Nat} (N : NmL c m x f) : LsO c m x := by
  intro i hi
  obtain ⟨v, S⟩ := N i hi
  exact ⟨S.l, by rw [S.k]; rfl⟩

/-- a symbol that is being made. -/
def NwS (c : HC) (a nl nd nm si sv k : Nat) (an : Nat → List Nat) (w : List Nat) (iv : Int32) (z : Nat) : Prop :=
  ((c.kd a).1 = 6) ∧
  (a < c.sz) ∧
  (c.fr 601 a = some nl) ∧
  (∃ x, Ls c nl nd nm k x ∧ NmL c k x an) ∧
  (1 ≤ nm) ∧
  (c.fi 602 a = iv) ∧
  (c.fr 603 a = some si) ∧
  (c.kd si = (40, 8)) ∧
  (si < c.sz) ∧
  (∀ j, j < 8 → c.ai si j = 0) ∧
  (c.fr 604 a = some sv) ∧
  (c.kd sv = (40, 8)) ∧
  (sv < c.sz) ∧
  (∃ wa wv, c.fr 600 a = some wa ∧ StR c wa wv w) ∧
  (z ≤ a ∧ z ≤ nl ∧ z ≤ nd ∧ z ≤ si ∧ z ≤ sv) ∧
  (si ≠ sv)
theorem NwS.k {c : HC} {a nl nd nm si sv k : Nat} {an : Nat → List Nat} {w : List Nat} {iv : Int32} {z : Nat} (h9 : NwS c a nl nd nm si sv k an w iv z) : (c.kd a).1 = 6 := h9.1
theorem NwS.l {c : HC} {a nl nd nm si sv k : Nat} {an : Nat → List Nat} {w : List Nat} {iv : Int32} {z : Nat} (h9 : NwS c a nl nd nm si sv k an w iv z) : a < c.sz := h9.2.1
theorem NwS.nf {c : HC} {a nl nd nm si sv k : Nat} {an : Nat → List Nat} {w : List Nat} {iv : Int32} {z : Nat} (h9 : NwS c a nl nd nm si sv k an w iv z) : c.fr 601 a = some nl := h9.2.2.1
theorem NwS.ls {c : HC} {a nl nd nm si sv k : Nat} {an : Nat → List Nat} {w : List Nat} {iv : Int32} {z : Nat} (h9 : NwS c a nl nd nm si sv k an w iv z) : ∃ x, Ls c nl nd nm k x ∧ NmL c k x an := h9.2.2.2.1
theorem NwS.m1 {c : HC} {a nl nd nm si sv k : Nat} {an : Nat → List Nat} {w : List Nat} {iv : Int32} {z : Nat} (h9 : NwS c a nl nd nm si sv k an w iv z) : 1 ≤ nm := h9.2.2.2.2.1
theorem NwS.is {c : HC} {a nl nd nm si sv k : Nat} {an : Nat → List Nat} {w : List Nat} {iv : Int32} {z : Nat} (h9 : NwS c a nl nd nm si sv k an w iv z) : c.fi 602 a = iv := h9.2.2.2.2.2.1
theorem NwS.i1 {c : HC} {a nl nd nm si sv k : Nat} {an : Nat → List Nat} {w : List Nat} {iv : Int32} {z : Nat} (h9 : NwS c a nl nd nm si sv k an w iv z) : c.fr 603 a = some si := h9.2.2.2.2.2.2.1
theorem NwS.i2 {c : HC} {a nl nd nm si sv k : Nat} {an : Nat → List Nat} {w : List Nat} {iv : Int32} {z : Nat} (h9 : NwS c a nl nd nm si sv k an w iv z) : c.kd si = (40, 8) := h9.2.2.2.2.2.2.2.1
theorem NwS.i3 {c : HC} {a nl nd nm si sv k : Nat} {an : Nat → List Nat} {w : List Nat} {iv : Int32} {z : Nat} (h9 : NwS c a nl nd nm si sv k an w iv z) : si < c.sz := h9.2.2.2.2.2.2.2.2.1
theorem NwS.i4 {c : HC} {a nl nd nm si sv k : Nat} {an : Nat → List Nat} {w : List Nat} {iv : Int32} {z : Nat} (h9 : NwS c a nl nd nm si sv k an w iv z) : ∀ j, j < 8 → c.ai si j = 0 := h9.2.2.2.2.2.2.2.2.2.1
theorem NwS.v1 {c : HC} {a nl nd nm si sv k : Nat} {an : Nat → List Nat} {w : List Nat} {iv : Int32} {z : Nat} (h9 : NwS c a nl nd nm si sv k an w iv z) : c.fr 604 a = some sv := h9.2.2.2.2.2.2.2.2.2.2.1
theorem NwS.v2 {c : HC} {a nl nd nm si sv k : Nat} {an : Nat → List Nat} {w : List Nat} {iv : Int32} {z : Nat} (h9 : NwS c a nl nd nm si sv k an w iv z) : c.kd sv = (40, 8) := h9.2.2.2.2.2.2.2.2.2.2.2.1
theorem NwS.v3 {c : HC} {a nl nd nm si sv k : Nat} {an : Nat → List Nat} {w : List Nat} {iv : Int32} {z : Nat} (h9 : NwS c a nl nd nm si sv k an w iv z) : sv < c.sz := h9.2.2.2.2.2.2.2.2.2.2.2.2.1
theorem NwS.w {c : HC} {a nl nd nm si sv k : Nat} {an : Nat → List Nat} {w : List Nat} {iv : Int32} {z : Nat} (h9 : NwS c a nl nd nm si sv k an w iv z) : ∃ wa wv, c.fr 600 a = some wa ∧ StR c wa wv w := h9.2.2.2.2.2.2.2.2.2.2.2.2.2.1
theorem NwS.z {c : HC} {a nl nd nm si sv k : Nat} {an : Nat → List Nat} {w : List Nat} {iv : Int32} {z : Nat} (h9 : NwS c a nl nd nm si sv k an w iv z) : z ≤ a ∧ z ≤ nl ∧ z ≤ nd ∧ z ≤ si ∧ z ≤ sv := h9.2.2.2.2.2.2.2.2.2.2.2.2.2.2.1
theorem NwS.d {c : HC} {a nl nd nm si sv k : Nat} {an : Nat → List Nat} {w : List Nat} {iv : Int32} {z : Nat} (h9 : NwS c a nl nd nm si sv k an w iv z) : si ≠ sv := h9.2.2.2.2.2.2.2.2.2.2.2.2.2.2.2
theorem NwS.keep {W : Nat → Nat → Prop} {c c' : HC} {a nl nd nm si sv k z : Nat} {an : Nat → List Nat} {w : List Nat} {iv : Int32} (N : NwS c a nl nd nm si sv k an w iv z) (F : Fr W c c') (hf : ∀ f b, f = 600 ∨ f = 601 ∨ f = 602 ∨ f = 603 ∨ f = 604 ∨ f = 2200 ∨ f = 2201 → ¬ W f b) (h2 : ¬ W 2302 nl) (h3 : ¬ W 2301 nl) (h4 : ¬ W 0 nd) (h5 : ¬ W 0 si) (h6 : ∀ v, (c.kd v).1 = 41 → ¬ W 0 v) : NwS c' a nl nd nm si sv k an w iv z := by
  refine ⟨by rw [F.kd _ N.l]; exact N.k, Nat.lt_of_lt_of_le N.l F.sz, by rw [F.fr _ _ N.l (hf _ _ (by simp))]; exact N.nf, ?_, N.m1, by rw [F.fi _ _ N.l (hf _ _ (by simp))]; exact N.is, by rw [F.fr _ _ N.l (hf _ _ (by simp))]; exact N.i1, by rw [F.kd _ N.i3]; exact N.i2, Nat.lt_of_lt_of_le N.i3 F.sz, fun j hj => by rw [F.ai _ N.i3 h5]; exact N.i4 j hj, by rw [F.fr _ _ N.l (hf _ _ (by simp))]; exact N.v1, by rw [F.kd _ N.v3]; exact N.v2, Nat.lt_of_lt_of_le N.v3 F.sz, ?_, N.z, N.d⟩
  · obtain ⟨x, e1, e2⟩ := N.ls
    exact ⟨x, e1.keep F h2 h3 h4, e2.keep F (fun a => ⟨hf _ _ (by simp), hf _ _ (by simp)⟩) h6⟩
  · obtain ⟨wa, wv, e1, e2⟩ := N.w
    exact ⟨wa, wv, by rw [F.fr _ _ N.l (hf _ _ (by simp))]; exact e1, e2.keep F (hf _ _ (by simp)) (hf _ _ (by simp)) (h6 _ (by rw [e2.vk]))⟩
theorem NwS.go {c c' : HC} {a nl nd nm si sv k z : Nat} {an : Nat → List Nat} {w : List Nat} {iv : Int32} (N : NwS c a nl nd nm si sv k an w iv z) (F : Fr (WG lo q) c c') : NwS c' a nl nd nm si sv k an w iv z :=
  N.keep F (fun f b hh hw => by have := hw.fl; omega) (fun hw => by have := hw.fl; omega) (fun hw => by have := hw.fl; omega) (fun hw => by have := hw.fl; omega) (fun hw => by have := hw.fl; omega) (fun v _ hw => by have := hw.fl; omega)
theorem px_countN {a nl nd nm si sv k z : Nat} {an : Nat → List Nat} {w : List Nat} {iv : Int32} (N : NwS h.c a nl nd nm si sv k an w iv z) {Q : Int32 → AH → Prop} (hQ : Q (I k) h) : wp_X5_count a h Q := by
  obtain ⟨x, e1, _⟩ := N.ls
  refine ⟨nn_of rfl N.k, ?_⟩
  rw [show h.fr 601 a = some nl from N.nf]
  refine ⟨nn_of rfl e1.k, ?_⟩
  rw [adr_some]
  exact pc_size (h := h.srm 0 0) e1 (pu hQ)
theorem grw_le {k : Nat} (hk : k ≤ 12) : grw k ≤ 18 := by unfold grw; split <;> omega

/-- names of attributes are read. -/
theorem g_names {c0 : HC} {a nl si sv k0 : Nat} {w : List Nat} {iv : Int32} {an0 : Nat → List Nat} {nd0 nm0 : Nat} (hk0 : k0 ≤ 4) (hq : q < c0.sz) (F0 : Fr (WG lo q) c0 h.c) (K0 : RdK h.c lo q o jn tpa tp n t) (N0 : NwS h.c a nl nd0 nm0 si sv k0 an0 w iv c0.sz) {r : Except Fl ((Nat → List Nat) × Nat × Tk)} (er : pAt tp n 6 t an0 k0 k0 = r)
    (hc : 64 * (eE n (fun x => x.2.2) r - t.fr) ≤ h.rc) (hs : 1024 * (eE n (fun x => x.2.2) r - t.fr) ≤ h.rs) {P : AH → Prop} {X : Nat → AH → Prop}
    (h1 : ∀ an' k' t', r = .ok (an', k', t') → ∀ h' nd' nm', Fr (WG lo q) c0 h'.c → RdK h'.c lo q o jn tpa tp n t' → NwS h'.c a nl nd' nm' si sv k' an' w iv c0.sz → h'.rc = h.rc - 64 * (t'.fr - t.fr) → h'.rs = h.rs - 1024 * (t'.fr - t.fr) → P h')
    (h0 : ∀ e, r = .error e → ∀ x h', Fr (WG lo q) c0 h'.c → ThR h'.c x e → X x h') :
    cl h fun mc ms => wp_X2_names q (some a) (h.srm mc ms) (fun h3 => ∀ h4, h4 = h3.srm (h.rc - mc) (h.rs - ms) → P h4) (fun q8 h9 => ∀ h10, h10 = h9.srm (h.rc - mc) (h.rs - ms) → X q8 h10) := by
  refine ⟨64 * (eE n (fun x => x.2.2) r - t.fr), 1024 * (eE n (fun x => x.2.2) r - t.fr), ⟨hc, hs⟩, ?_⟩
  dsimp only
  generalize hE : eE n (fun x => x.2.2) r = E at *
  unfold wp_X2_names
  refine ⟨nn_of rfl N0.k, ?_⟩
  rw [adr_some]
  refine px_countN (h := (h.srm (64 * (E - t.fr)) (1024 * (E - t.fr))).srm 0 0) N0 ?_
  intro h4 e4
  have e4' : h4 = h.srm (64 * (E - t.fr)) (1024 * (E - t.fr)) := by rw [e4]; rfl
  rw [e4']
  refine ⟨fun f _ U => ∃ t1 an k nd nm, pAt tp n f t1 an k k0 = r ∧ f + (k - k0) = 6 ∧ k0 ≤ k ∧ k - k0 ≤ 4 ∧ Fr (WG lo q) c0 U.c ∧ RdK U.c lo q o jn tpa tp n t1 ∧ NwS U.c a nl nd nm si sv k an w iv c0.sz ∧ 64 * (E - t1.fr) ≤ U.rc ∧ 1024 * (E - t1.fr) ≤ U.rs, ⟨6, t, an0, k0, nd0, nm0, er, by omega, Nat.le_refl _, by omega, F0, K0, N0, Nat.le_refl _, Nat.le_refl _⟩, ?_⟩
  rintro f _ U ⟨t1, an, k, nd, nm, er1, hf, hk, hk4, F, K, N, rc, rs⟩
  obtain ⟨f', rfl⟩ : ∃ f', f = f' + 1 := ⟨f - 1, by omega⟩
  unfold pAt at er1
  have le1 := K.le
  have eb : 1 ≤ E - t1.fr := by
    rw [← hE]
    cases hr : r with
    | error x => rw [eE_er rfl]; omega
    | ok b =>
      rw [eE_ok rfl]
      have := (pAt_fr K.it (show pAt tp n (f' + 1) t1 an k k0 = .ok (b.1, b.2.1, b.2.2) by unfold pAt; rw [er1, hr])).1
      show 1 ≤ b.2.2.fr - t1.fr
      omega
  refine ⟨nn_of rfl K.R.k, ?_⟩
  refine g_needsName K (by omega) (by omega) ?_ ?_
  · intro hn h10 F10 K10 c10 s10
    rw [if_pos hn] at er1
    have F10' := F.trans' F10 (fun _ _ _ hh => hh)
    have N10 := N.go F10
    obtain ⟨x, Lx, Nx⟩ := N10.ls
    obtain ⟨wa, wv, w1, w2, w3⟩ := K10.T.w0 (by have := isNm_kd hn; omega)
    refine ⟨nn_of rfl N10.k, nn_of rfl K10.R.k, ?_⟩
    rw [show h10.fr 601 a = some nl from N10.nf, show h10.fr 305 q = some wa from w1]
    refine ⟨nn_of rfl Lx.k, ?_⟩
    rw [adr_some]
    refine pc_containsS (h := h10.srm 0 0) Lx Nx w2 (by omega) (pu ?_)
    by_cases hs1 : (fdN an k (wrd tp t1)).isSome = true
    · rw [if_pos hs1] at er1 ⊢
      refine brF (by decide) ⟨nn_of rfl K10.R.k, ?_⟩
      refine g_wr K10 (k := 4) (by decide) (by rfl) (by omega) (by omega) ?_
      intro x' h' F' T'
      refine ⟨nn_of rfl T'.1, ?_⟩
      intro h11 e11
      have c11 : h11.c = h'.c := by rw [e11]; rfl
      rw [thK_nm (by decide) hn] at T'
      exact h0 _ er1.symm x' h11 (by rw [c11]; exact F10'.trans' F' (fun _ _ _ hh => hh.elim)) (by rw [c11]; exact T')
    rw [if_neg hs1] at er1 ⊢
    refine brT rfl ⟨nn_of rfl N10.k, ?_⟩
    refine px_countN (h := h10.srm 0 0) N10 (pu ?_)
    rw [I_sub hk]
    by_cases h4 : k - k0 = 4
    · rw [if_pos h4] at er1
      rw [h4]
      refine brT rfl ⟨nn_of rfl K10.R.k, ?_⟩
      refine g_wr K10 (k := 6) (by decide) (by rfl) (by omega) (by omega) ?_
      intro x' h' F' T'
      refine ⟨nn_of rfl T'.1, ?_⟩
      intro h11 e11
      have c11 : h11.c = h'.c := by rw [e11]; rfl
      rw [thK_nm (by decide) hn] at T'
      exact h0 _ er1.symm x' h11 (by rw [c11]; exact F10'.trans' F' (fun _ _ _ hh => hh.elim)) (by rw [c11]; exact T')
    rw [if_neg h4] at er1
    refine brF (fun hh => h4 ((I_eq (by omega) (by decide)).1 (show I (k - k0) = I 4 from hh))) ⟨nn_of rfl N10.k, nn_of rfl K10.R.k, ?_⟩
    rw [show h10.fr 601 a = some nl from N10.nf, show h10.fr 305 q = some wa from w1]
    refine ⟨nn_of rfl Lx.k, ?_⟩
    rw [adr_some]
    have gk := grw_le (show k ≤ 12 by omega)
    refine g_add Lx Nx.O N10.m1 (by omega) w2.l (by show stk 44 (h10.kd wa).1 = true; rw [show (h10.kd wa).1 = 22 from w2.k]; rfl) (by omega) (by omega) ?_
    intro h34 d' m' F34 L34 hm34 hd34 c34 s34
    have zz := N10.z
    have sz10 : c0.sz ≤ h10.c.sz := F10'.sz
    have ndk : (h10.c.kd nd).1 = 44 := by rw [Lx.dk]
    have nlk : (h10.c.kd nl).1 = 23 := Lx.k
    have FF : Fr (WG lo q) c0 h34.c := F10'.trans' F34 (fun f' b hb hh => by rcases hh with ⟨e, _⟩ | ⟨_, e⟩ <;> omega)
    have K34 : RdK h34.c lo q o jn tpa tp n t1 := by
      refine K10.keep F34 (fun f' b hh => ?_)
      have l1 : h10.c.lo ≤ c0.sz := by have := K10.R.b; omega
      rcases hh with ⟨e, hf'⟩ | ⟨e1, e2⟩
      · exact ⟨by omega, .inr (.inl (by omega))⟩
      · exact ⟨by omega, .inr (.inr ⟨e1, by rw [e2, ndk]; decide, by rw [e2, ndk]; decide⟩)⟩
    have N34 : NwS h34.c a nl d' m' si sv (k + 1) (updN an k (wrd tp t1)) w iv c0.sz := by
      have nW : ∀ f' b, f' = 600 ∨ f' = 601 ∨ f' = 602 ∨ f' = 603 ∨ f' = 604 ∨ f' = 2200 ∨ f' = 2201 → ¬ WL nl nd f' b := by
        intro f' b hh hw
        rcases hw with ⟨_, e⟩ | ⟨e, _⟩ <;> omega
      have nsi : ¬ WL nl nd 0 si := by
        rintro (⟨_, e⟩ | ⟨_, e⟩)
        · omega
        · have h9 := N10.i2
          rw [e] at h9
          rw [h9] at ndk
          exact absurd ndk (by decide)
      have nb : ∀ v, (h10.c.kd v).1 = 41 → ¬ WL nl nd 0 v := by
        rintro v hv (⟨_, e⟩ | ⟨_, e⟩)
        · omega
        · rw [e, ndk] at hv; exact absurd hv (by decide)
      have sz34 : h10.c.sz ≤ h34.c.sz := F34.sz
      refine ⟨by rw [F34.kd _ N10.l]; exact N10.k, Nat.lt_of_lt_of_le N10.l F34.sz, by rw [F34.fr _ _ N10.l (nW _ _ (by simp))]; exact N10.nf, ⟨_, L34, ?_⟩, hm34, by rw [F34.fi _ _ N10.l (nW _ _ (by simp))]; exact N10.is, by rw [F34.fr _ _ N10.l (nW _ _ (by simp))]; exact N10.i1, by rw [F34.kd _ N10.i3]; exact N10.i2, Nat.lt_of_lt_of_le N10.i3 F34.sz, fun j hj => by rw [F34.ai _ N10.i3 nsi]; exact N10.i4 j hj, by rw [F34.fr _ _ N10.l (nW _ _ (by simp))]; exact N10.v1, by rw [F34.kd _ N10.v3]; exact N10.v2, Nat.lt_of_lt_of_le N10.v3 F34.sz, ?_, ⟨zz.1, zz.2.1, ?_, zz.2.2.2.1, zz.2.2.2.2⟩, N10.d⟩
      · intro i hi
        by_cases ei : i = k
        · rw [ei, updN_same, updN_same]
          exact ⟨wv, w2.keep F34 (nW _ _ (by simp)) (nW _ _ (by simp)) (nb _ (by rw [w2.vk]))⟩
        · rw [updN_ne _ _ ei, updN_ne _ _ ei]
          obtain ⟨v, Sv⟩ := Nx i (by omega)
          exact ⟨v, Sv.keep F34 (nW _ _ (by simp)) (nW _ _ (by simp)) (nb _ (by rw [Sv.vk]))⟩
      · obtain ⟨wa', wv', e1, e2⟩ := N10.w
        exact ⟨wa', wv', by rw [F34.fr _ _ N10.l (nW _ _ (by simp))]; exact e1, e2.keep F34 (nW _ _ (by simp)) (nW _ _ (by simp)) (nb _ (by rw [e2.vk]))⟩
      · rcases hd34 with e | e
        · omega
        · have h9 : h10.c.sz = h10.sz := rfl
          omega
    refine ⟨nn_of rfl K34.R.k, ?_⟩
    refine g_reads K34 (by omega) (by omega) ?_
    intro h41 F41 K41 c41 s41
    have up := K.it.up (nm_ne hn)
    have le2 := K41.le
    have F41' := FF.trans' F41 (fun _ _ _ hh => hh)
    refine ⟨nn_of rfl K41.R.k, ?_⟩
    refine g_isName K41 ?_
    intro h48 F48 K48 c48 s48
    have F48' := F41'.trans' F48 (fun _ _ _ hh => hh)
    have N48 := (N34.go F41).go F48
    cases hn2 : isNm tp (nxt tp n t1) with
    | true =>
      rw [if_pos hn2] at er1
      refine brF (by decide) ⟨f', Nat.lt_succ_self _, nxt tp n t1, updN an k (wrd tp t1), k + 1, d', m', er1, by omega, by omega, by omega, F48', K48, N48, by omega, by omega⟩
    | false =>
      rw [if_neg (by rw [hn2]; decide)] at er1
      refine brT rfl ?_
      intro h5 e5
      have c5 : h5.c = h48.c := by rw [e5]; rfl
      have eE' : E = (nxt tp n t1).fr := by rw [← hE, ← er1]; rfl
      exact h1 _ _ _ er1.symm h5 d' m' (by rw [c5]; exact F48') (by rw [c5]; exact K48) (by rw [c5]; exact N48) (by rw [e5, ← eE']; rfl) (by rw [e5, ← eE']; rfl)
  · intro hn x h' F' T h10 e10
    rw [if_neg (by rw [hn]; decide)] at er1
    have c10 : h10.c = h'.c := by rw [e10]; rfl
    exact h0 _ er1.symm x h10 (by rw [c10]; exact F.trans' F' (fun _ _ _ hh => hh)) (by rw [c10]; exact T)
end
