/-! plain: kx -/
set_option maxRecDepth 100000
section
variable {h : AH} {lo q o jn tpa : Nat} {tp : Nat → Nat} {n : Nat} {t : Tk} {L : GA} {A : PG} {g : Nat} {D D' : TA} {G : Gv} {T : Tv}

theorem g_adds {a b kl cd cm m : Nat} {x : Nat → Nat} (hk : (h.kd a).1 = 15) (al : a < h.sz) (hf : h.fr 1506 a = some kl) (X : Ls h.c kl cd cm m x) (O : LsO h.c m x) (h1 : 1 ≤ cm) (hm : m ≤ 12) (hb : (h.kd b).1 = 15) (bl : b < h.sz) (hc : 1 ≤ h.rc) (hs : 18 ≤ h.rs) {P : AH → Prop}
    (hP : ∀ h' cd' cm', Fr (fun f y => WL kl cd f y ∨ (y = b ∧ (f = 1504 ∨ f = 1505))) h.c h'.c → Ls h'.c kl cd' cm' (m + 1) (updN x m b) → 1 ≤ cm' → (cd' = cd ∨ cd' = h.sz) → h'.fr 1504 b = some a → h'.fi 1505 b = I (m + 1) → h'.rc = h.rc - 1 → h'.rs = h.rs - 18 → P h') :
    cl h fun mc ms => wp_X15_adds a (some b) (h.srm mc ms) fun h3 => ∀ h4, h4 = h3.srm (h.rc - mc) (h.rs - ms) → P h4 := by
  have gk := grw_le hm
  refine ⟨1, 18, ⟨hc, hs⟩, ?_⟩
  dsimp only
  unfold wp_X15_adds
  refine ⟨nn_of rfl hk, ?_⟩
  rw [show (h.srm 1 18).fr 1506 a = some kl from hf]
  refine ⟨nn_of rfl X.k, ?_⟩
  rw [adr_some]
  refine g_add (h := h.srm 1 18) X O h1 (by omega) bl (by show stk 44 (h.kd b).1 = true; rw [hb]; rfl) (Nat.le_refl _) gk ?_
  intro h5 d' m' F5 L5 hm5 hd5 _ _
  have F5' : Fr (WL kl cd) h.c h5.c := F5
  have kb : ∀ {W : Nat → Nat → Prop} {U : AH}, Fr W h.c U.c → (U.kd b).1 = 15 := @fun _ U F => by show (U.c.kd b).1 = _; rw [F.kd b bl]; exact hb
  have kA : ∀ {W : Nat → Nat → Prop} {U : AH}, Fr W h.c U.c → (U.kd a).1 = 15 := @fun _ U F => by show (U.c.kd a).1 = _; rw [F.kd a al]; exact hk
  refine ⟨nn_of rfl (kb F5'), ?_⟩
  rw [adr_some]
  intro h10 e10
  have G10 : Fr (fun f y => y = b ∧ (f = 1504 ∨ f = 1505)) h5.c h10.c := by rw [e10]; exact (Fr.refl _).sfr _ (fun _ => ⟨rfl, .inl rfl⟩)
  have F10 : Fr (fun f y => WL kl cd f y ∨ (y = b ∧ (f = 1504 ∨ f = 1505))) h.c h10.c := (F5'.mono (fun _ _ _ hh => .inl hh)).trans' G10 (fun _ _ _ hh => .inr hh)
  have f10 : h10.fr 1506 a = some kl := by
    show h10.c.fr 1506 a = _
    rw [F10.fr 1506 a al (by rintro ((⟨_, e⟩ | ⟨e, _⟩) | ⟨_, e⟩) <;> omega)]; exact hf
  have L10 : Ls h10.c kl d' m' (m + 1) (updN x m b) := L5.keep G10 (by omega) (by omega) (by omega)
  refine ⟨nn_of rfl (kA F10), ?_⟩
  rw [f10]
  refine ⟨nn_of rfl L10.k, ?_⟩
  rw [adr_some]
  refine pc_size (h := h10.srm 0 0) L10 ?_
  intro h15 e15
  have e15' : h15 = h10 := by rw [e15]; rfl
  rw [e15']
  refine ⟨nn_of rfl (kb F10), ?_⟩
  intro h17 e17 h18 e18
  have c18 : h18.c = h17.c := by rw [e18]; rfl
  have G17 : Fr (fun f y => y = b ∧ (f = 1504 ∨ f = 1505)) h10.c h17.c := by rw [e17]; exact (Fr.refl _).sfi _ (fun _ => ⟨rfl, .inr rfl⟩)
  refine hP h18 d' m' (by rw [c18]; exact F10.trans' G17 (fun _ _ _ hh => .inr hh)) (by rw [c18]; exact L10.keep G17 (by omega) (by omega) (by omega)) hm5 hd5 ?_ ?_ (by rw [e18]; rfl) (by rw [e18]; rfl)
  · show h18.c.fr 1504 b = _
    rw [c18]
    show h17.fr 1504 b = _
    rw [e17, sfi_fr, e10, sfr_same]
  · show h18.c.fi 1505 b = _
    rw [c18]
    show h17.fi 1505 b = _
    rw [e17, sfi_same]

/-- a node is made, its children are read. -/
def rnT (r_X2_readsNode : Nat → Option Nat → Int32 → Int32 → AH → (Option Nat → AH → Prop) → (Nat → AH → Prop) → Prop) (o : Nat) (r3 : Option Nat) (p1 : Int32) (p2 : Int32) (h5 : AH) (Q : Option Nat → AH → Prop) (X : Nat → AH → Prop) : Prop :=
  ∀ h23, h23 = h5.sfi 311 o ((h5.fi 311 o) + 1) →
  cl h23 fun mc27 ms28 => wp_X2_reads o (h23.srm mc27 ms28) fun h25 => ∀ h26, h26 = h25.srm (h23.rc - mc27) (h23.rs - ms28) →
  nr h26 9 ∧
  ∀ h30, h30 = h26.new 15 0 9 →
  nn h30 (some o) 3 ∧
  xjn (α := Int32) (fun J33 =>
  (((h30.fi 307 o) = 0 →
  J33 0 h30) ∧ (¬ (h30.fi 307 o) = 0 →
  (((h30.fi 308 o) = 0 →
  cl h30 fun mc39 ms40 => wp_X2_number o (h30.srm mc39 ms40) (fun r36 h37 => ∀ h38, h38 = h37.srm (h30.rc - mc39) (h30.rs - ms40) →
  J33 r36 h38) (fun q42 h43 => ∀ h44, h44 = h43.srm (h30.rc - mc39) (h30.rs - ms40) → X q42 h44)) ∧ (¬ (h30.fi 308 o) = 0 →
  J33 0 h30))))) (fun x45 T46 =>
  cl T46 fun mc50 ms51 => wp_X15_init h26.sz r3 x45 (T46.srm mc50 ms51) fun h48 => ∀ h49, h49 = h48.srm (T46.rc - mc50) (T46.rs - ms51) →
  nn h49 r3 7 ∧
  wp_X6_children (adr r3) (h49.srm 0 0) fun r54 h55 => ∀ h56, h56 = h55.srm h49.rc h49.rs →
  ((r54 = 0 →
  Q (some h26.sz) h56) ∧ (¬ r54 = 0 →
  xlp (σ := Int32) (fun s58 T59 k58 =>
  nn T59 r3 7 ∧
  wp_X6_children (adr r3) (T59.srm 0 0) fun r61 h62 => ∀ h63, h63 = h62.srm T59.rc T59.rs →
  ((r61 < s58 →
  nn h63 (some o) 3 ∧
  cl h63 fun mc69 ms70 => wp_X2_must o (sref (h63.cs 15)) (h63.srm mc69 ms70) (fun h67 => ∀ h68, h68 = h67.srm (h63.rc - mc69) (h63.rs - ms70) →
  Q (some h26.sz) h68) (fun q72 h73 => ∀ h74, h74 = h73.srm (h63.rc - mc69) (h63.rs - ms70) → X q72 h74)) ∧ (¬ r61 < s58 →
  xjn (α := Option Nat) (fun J76 =>
  ((s58 = 1 →
  J76 (sref (h63.cs 14)) h63) ∧ (¬ s58 = 1 →
  J76 (sref (h63.cs 16)) h63))) (fun x78 T79 =>
  nn T79 (some o) 3 ∧
  cl T79 fun mc84 ms85 => wp_X2_must o x78 (T79.srm mc84 ms85) (fun h82 => ∀ h83, h83 = h82.srm (T79.rc - mc84) (T79.rs - ms85) →
  nn h83 r3 7 ∧
  nn h83 (h83.fr 701 (adr r3)) 23 ∧
  wp_J12_get (adr (h83.fr 701 (adr r3))) s58 (h83.srm 0 0) fun r92 h93 => ∀ h94, h94 = h93.srm h83.rc h83.rs →
  ca h94 r92 6 ∧
  nn h94 (some o) 3 ∧
  cl h94 fun mc99 ms100 => r_X2_readsNode o r92 (p1 + 1) p2 (h94.srm mc99 ms100) (fun r96 h97 => ∀ h98, h98 = h97.srm (h94.rc - mc99) (h94.rs - ms100) →
  nn h98 (some h26.sz) 15 ∧
  cl h98 fun mc109 ms110 => wp_X15_adds h26.sz r96 (h98.srm mc109 ms110) fun h107 => ∀ h108, h108 = h107.srm (h98.rc - mc109) (h98.rs - ms110) →
  k58 (s58 + 1) h108) (fun q102 h103 => ∀ h104, h104 = h103.srm (h94.rc - mc99) (h94.rs - ms100) → X q102 h104)) (fun q87 h88 => ∀ h89, h89 = h88.srm (T79.rc - mc84) (T79.rs - ms85) → X q87 h89))))) 1 h56)))

/-- nodes from a on, of which a has j children yet. -/
def NdL (c : HC) (L : GA) (D : TA) (G : Gv) (T : Tv) (a j b z : Nat) : Prop :=
  (NdU c L D T a j) ∧
  (∀ k, a < k → k < b → NdU c L D T k (G.kn (T.pd k))) ∧
  (∀ k, a < k → k < b → c.fr 1504 (D.r k) = (T.pa k).map D.r ∧ c.fi 1505 (D.r k) = I (T.pl k)) ∧
  (c.fr 1504 (D.r a) = none) ∧
  (∀ k, a ≤ k → k < b → z ≤ D.r k ∧ z ≤ D.cl k ∧ z ≤ D.cd k ∧ z ≤ D.va k) ∧
  (∀ j k, a ≤ j → j < k → k < b → D.r j ≠ D.r k ∧ D.cl j ≠ D.cl k ∧ D.cd j ≠ D.cd k ∧ D.va j ≠ D.va k)
theorem NdL.n0 {c : HC} {L : GA} {D : TA} {G : Gv} {T : Tv} {a j b z : Nat} (h9 : NdL c L D G T a j b z) : NdU c L D T a j := h9.1
theorem NdL.nd {c : HC} {L : GA} {D : TA} {G : Gv} {T : Tv} {a j b z : Nat} (h9 : NdL c L D G T a j b z) : ∀ k, a < k → k < b → NdU c L D T k (G.kn (T.pd k)) := h9.2.1
theorem NdL.lk {c : HC} {L : GA} {D : TA} {G : Gv} {T : Tv} {a j b z : Nat} (h9 : NdL c L D G T a j b z) : ∀ k, a < k → k < b → c.fr 1504 (D.r k) = (T.pa k).map D.r ∧ c.fi 1505 (D.r k) = I (T.pl k) := h9.2.2.1
theorem NdL.rt {c : HC} {L : GA} {D : TA} {G : Gv} {T : Tv} {a j b z : Nat} (h9 : NdL c L D G T a j b z) : c.fr 1504 (D.r a) = none := h9.2.2.2.1
theorem NdL.z {c : HC} {L : GA} {D : TA} {G : Gv} {T : Tv} {a j b z : Nat} (h9 : NdL c L D G T a j b z) : ∀ k, a ≤ k → k < b → z ≤ D.r k ∧ z ≤ D.cl k ∧ z ≤ D.cd k ∧ z ≤ D.va k := h9.2.2.2.2.1
theorem NdL.ij {c : HC} {L : GA} {D : TA} {G : Gv} {T : Tv} {a j b z : Nat} (h9 : NdL c L D G T a j b z) : ∀ j k, a ≤ j → j < k → k < b → D.r j ≠ D.r k ∧ D.cl j ≠ D.cl k ∧ D.cd j ≠ D.cd k ∧ D.va j ≠ D.va k := h9.2.2.2.2.2
/-- the numbers of such nodes. -/
def NdN (G : Gv) (T : Tv) (a j b : Nat) : Prop :=
  (∀ i, 1 ≤ i → i ≤ j → a < T.kd a i ∧ T.kd a i < b) ∧
  (∀ k, a < k → k < b → ∀ i, 1 ≤ i → i ≤ G.kn (T.pd k) → k < T.kd k i ∧ T.kd k i < b) ∧
  (∀ k, a < k → k < b → ∃ x, T.pa k = some x ∧ a ≤ x ∧ x < b)
theorem NdN.c0 {G : Gv} {T : Tv} {a j b : Nat} (h9 : NdN G T a j b) : ∀ i, 1 ≤ i → i ≤ j → a < T.kd a i ∧ T.kd a i < b := h9.1
theorem NdN.c {G : Gv} {T : Tv} {a j b : Nat} (h9 : NdN G T a j b) : ∀ k, a < k → k < b → ∀ i, 1 ≤ i → i ≤ G.kn (T.pd k) → k < T.kd k i ∧ T.kd k i < b := h9.2.1
theorem NdN.p {G : Gv} {T : Tv} {a j b : Nat} (h9 : NdN G T a j b) : ∀ k, a < k → k < b → ∃ x, T.pa k = some x ∧ a ≤ x ∧ x < b := h9.2.2
theorem NdL.S {c : HC} {a j b z : Nat} (N : NdL c L D G T a j b z) (hj : j = G.kn (T.pd a)) (hab : a < b) : NdS c L D G T a b z := by
  refine ⟨fun k h1 h2 => ?_, N.lk, fun _ => N.rt, N.z, N.ij⟩
  by_cases e : k = a
  · rw [e, ← hj]; exact N.n0
  · exact N.nd k (by omega) h2
theorem NdL.wn {c c' : HC} {a j b z : Nat} (N : NdL c L D G T a j b z) (F : Fr (WN lo q) c c') : NdL c' L D G T a j b z := by
  refine ⟨N.n0.wn F, fun k h1 h2 => (N.nd k h1 h2).wn F, fun k h1 h2 => ⟨?_, ?_⟩, ?_, N.z, N.ij⟩
  · rw [F.fr _ _ (N.nd k h1 h2).l (fun hw => by have := hw.fl; omega)]; exact (N.lk k h1 h2).1
  · rw [F.fi _ _ (N.nd k h1 h2).l (fun hw => by have := hw.fl; omega)]; exact (N.lk k h1 h2).2
  · rw [F.fr _ _ N.n0.l (fun hw => by have := hw.fl; omega)]; exact N.rt
/-- a child more: its part stands behind; it is laid into the list. -/
theorem NdL.add {c1 c2 : HC} {a j b b' z cd' cm' : Nat} {T' : Tv} (N : NdL c1 L D G T a j b z) (M : NdN G T a j b) (hab : a < b) (hbb : b < b') (E : TaE D D' b)
    (ep : ∀ k, k < b → T'.pd k = T.pd k ∧ T'.nu k = T.nu k ∧ T'.pa k = T.pa k ∧ T'.pl k = T.pl k) (ek : ∀ k, k < b → k ≠ a → T'.kd k = T.kd k) (ea : T'.kd a = updN (T.kd a) (j + 1) b) (ra : T'.pa b = some a) (rl : T'.pl b = j + 1)
    {c1z : Nat} (S : NdS c1 L D' G T' b b' c1z) (hz : z ≤ c1z) (hlt : ∀ k, a ≤ k → k < b → D.r k < c1z ∧ D.cl k < c1z ∧ D.cd k < c1z ∧ D.va k < c1z)
    (F : Fr (fun f y => WL (D.cl a) (D.cd a) f y ∨ (y = D'.r b ∧ (f = 1504 ∨ f = 1505))) c1 c2) (X : Ls c2 (D.cl a) cd' cm' (j + 1) (updN (fun i => D.r (T.kd a (i + 1))) j (D'.r b))) (hm : 1 ≤ cm') (hd : cd' = D.cd a ∨ (cd' = c1.sz ∧ z ≤ c1.sz)) (f4 : c2.fr 1504 (D'.r b) = some (D.r a)) (f5 : c2.fi 1505 (D'.r b) = I (j + 1)) :
    NdL c2 L (D'.upd a (D.r a) (D.cl a) cd' cm' (D.va a)) G T' a (j + 1) b' z := by
  have Ea := E a hab
  have lt1 := hlt a (Nat.le_refl _) hab
  -- what the new layout is
  have u1 : ∀ k, (D'.upd a (D.r a) (D.cl a) cd' cm' (D.va a)).r k = D'.r k := by
    intro k
    by_cases e : k = a
    · rw [e]; exact (updN_same _ _ _).trans Ea.1.symm
    · exact updN_ne _ _ e
  have u2 : ∀ k, (D'.upd a (D.r a) (D.cl a) cd' cm' (D.va a)).cl k = D'.cl k := by
    intro k
    by_cases e : k = a
    · rw [e]; exact (updN_same _ _ _).trans Ea.2.1.symm
    · exact updN_ne _ _ e
  have u5 : ∀ k, (D'.upd a (D.r a) (D.cl a) cd' cm' (D.va a)).va k = D'.va k := by
    intro k
    by_cases e : k = a
    · rw [e]; exact (updN_same _ _ _).trans Ea.2.2.2.2.symm
    · exact updN_ne _ _ e
  have u3 : ∀ k, k ≠ a → (D'.upd a (D.r a) (D.cl a) cd' cm' (D.va a)).cd k = D'.cd k := fun k e => updN_ne _ _ e
  have u4 : ∀ k, k ≠ a → (D'.upd a (D.r a) (D.cl a) cd' cm' (D.va a)).cm k = D'.cm k := fun k e => updN_ne _ _ e
  have u3a : (D'.upd a (D.r a) (D.cl a) cd' cm' (D.va a)).cd a = cd' := updN_same _ _ _
  have u4a : (D'.upd a (D.r a) (D.cl a) cd' cm' (D.va a)).cm a = cm' := updN_same _ _ _
  -- what is written
  have nf : ∀ f y, f = 1500 ∨ f = 1501 ∨ f = 1506 ∨ f = 1507 → ¬ (WL (D.cl a) (D.cd a) f y ∨ (y = D'.r b ∧ (f = 1504 ∨ f = 1505))) := by
    rintro f y hf ((⟨_, e⟩ | ⟨e, _⟩) | ⟨_, e⟩) <;> omega
  have nl : ∀ f y, f = 2301 ∨ f = 2302 → y ≠ D.cl a → ¬ (WL (D.cl a) (D.cd a) f y ∨ (y = D'.r b ∧ (f = 1504 ∨ f = 1505))) := by
    rintro f y hf hy ((⟨e, _⟩ | ⟨e, _⟩) | ⟨_, e⟩)
    · exact hy e
    · omega
    · omega
  have n0 : ∀ y, y ≠ D.cd a → ¬ (WL (D.cl a) (D.cd a) 0 y ∨ (y = D'.r b ∧ ((0 : Nat) = 1504 ∨ (0 : Nat) = 1505))) := by
    rintro y hy ((⟨_, e⟩ | ⟨_, e⟩) | ⟨_, e⟩)
    · omega
    · exact hy e
    · omega
  have n4 : ∀ f y, f = 1504 ∨ f = 1505 → y ≠ D'.r b → ¬ (WL (D.cl a) (D.cd a) f y ∨ (y = D'.r b ∧ (f = 1504 ∨ f = 1505))) := by
    rintro f y hf hy ((⟨_, e⟩ | ⟨e, _⟩) | ⟨e, _⟩)
    · omega
    · omega
    · exact hy e
  have cdk : (c1.kd (D.cd a)).1 = 44 := by rw [N.n0.ls.dk]
  have va_n : ∀ {k m : Nat} {D1 : TA} {T1 : Tv}, NdU c1 L D1 T1 k m → D1.va k ≠ D.cd a := fun Nk e => by
    have := Nk.vk
    rw [e] at this
    rw [this] at cdk
    exact absurd cdk (by decide)
  have b1 := S.nd b (Nat.le_refl _) hbb
  have zS := S.z
  -- old nodes but a
  have old : ∀ k, a < k → k < b → NdU c2 L (D'.upd a (D.r a) (D.cl a) cd' cm' (D.va a)) T' k (G.kn (T'.pd k)) := by
    intro k h1 h2
    have Nk := N.nd k h1 h2
    have ij := N.ij a k (Nat.le_refl _) h1 h2
    have Ek := E k h2
    have Nk2 := Nk.keep F (fun f hh => nf f _ hh) (nl _ _ (.inl rfl) (fun e => ij.2.1 e.symm)) (nl _ _ (.inr rfl) (fun e => ij.2.1 e.symm)) (n0 _ (fun e => ij.2.2.1 e.symm)) (n0 _ (va_n Nk))
    have epk := ep k h2
    rw [epk.1]
    exact Nk2.eqv ((u1 k).trans Ek.1) ((u2 k).trans Ek.2.1) ((u3 k (by omega)).trans Ek.2.2.1) ((u4 k (by omega)).trans Ek.2.2.2.1) ((u5 k).trans Ek.2.2.2.2) epk.1 epk.2.1 (fun i hi => by
      rw [ek k h2 (by omega), u1]
      exact (E _ (M.c k h1 h2 (i + 1) (by omega) (by omega)).2).1)
  -- new ones
  have new : ∀ k, b ≤ k → k < b' → NdU c2 L (D'.upd a (D.r a) (D.cl a) cd' cm' (D.va a)) T' k (G.kn (T'.pd k)) := by
    intro k h1 h2
    have Nk := S.nd k h1 h2
    have zk := zS k h1 h2
    have Nk2 := Nk.keep F (fun f hh => nf f _ hh) (nl _ _ (.inl rfl) (by omega)) (nl _ _ (.inr rfl) (by omega)) (n0 _ (by omega)) (n0 _ (va_n Nk))
    exact Nk2.eqv (u1 k) (u2 k) (u3 k (by omega)) (u4 k (by omega)) (u5 k) rfl rfl (fun i hi => u1 _)
  have epa := ep a hab
  refine ⟨?_, fun k h1 h2 => ?_, fun k h1 h2 => ?_, ?_, fun k h1 h2 => ?_, fun i k h1 h2 h3 => ?_⟩
  · have Na := N.n0
    refine ⟨by rw [u1, Ea.1, F.kd _ Na.l]; exact Na.k, by rw [u1, Ea.1]; exact Nat.lt_of_lt_of_le Na.l F.sz, by rw [u1, Ea.1, F.fr _ _ Na.l (nf _ _ (by simp)), epa.1]; exact Na.p, by rw [u1, Ea.1, F.fi _ _ Na.l (nf _ _ (by simp)), epa.2.1]; exact Na.nu, by rw [u1, u2, Ea.1, Ea.2.1, F.fr _ _ Na.l (nf _ _ (by simp))]; exact Na.ch, ?_, by rw [u4a]; exact hm, by rw [u1, u5, Ea.1, Ea.2.2.2.2, F.fr _ _ Na.l (nf _ _ (by simp))]; exact Na.va, by rw [u5, Ea.2.2.2.2, F.kd _ Na.vl]; exact Na.vk, by rw [u5, Ea.2.2.2.2]; exact Nat.lt_of_lt_of_le Na.vl F.sz, fun i hi => by rw [u5, Ea.2.2.2.2, F.ai _ Na.vl (n0 _ (va_n Na))]; exact Na.vz i hi⟩
    rw [u2, Ea.2.1, u3a, u4a]
    refine X.congr (fun i hi => ?_)
    show (D'.upd a (D.r a) (D.cl a) cd' cm' (D.va a)).r (T'.kd a (i + 1)) = _
    rw [u1, ea]
    by_cases e : i = j
    · rw [e, updN_same, updN_same]
    · rw [updN_ne _ _ (show i + 1 ≠ j + 1 by omega), updN_ne _ _ e]
      exact (E _ (M.c0 (i + 1) (by omega) (by omega)).2).1
  · rcases Nat.lt_or_ge k b with l | l
    · exact old k h1 l
    · exact new k l h2
  · rw [u1]
    rcases Nat.lt_or_ge k b with l | l
    · have Nk := N.nd k h1 l
      have Ek := E k l
      have lk := N.lk k h1 l
      have nb : D.r k ≠ D'.r b := by
        have := (hlt k (by omega) l).1
        have := (zS b (Nat.le_refl _) hbb).1
        omega
      rw [Ek.1, F.fr _ _ Nk.l (n4 _ _ (.inl rfl) nb), F.fi _ _ Nk.l (n4 _ _ (.inr rfl) nb), lk.1, lk.2, (ep k l).2.2.1, (ep k l).2.2.2]
      refine ⟨?_, rfl⟩
      obtain ⟨x, hx, h3, h4⟩ := M.p k h1 l
      rw [hx]
      show some (D.r x) = some _
      rw [u1, (E x h4).1]
    · by_cases e : k = b
      · rw [e, f4, f5, ra, rl]
        refine ⟨?_, rfl⟩
        show some (D.r a) = some _
        rw [u1, Ea.1]
      · have Nk := S.nd k l h2
        have lk := S.lk k (by omega) h2
        have nb : D'.r k ≠ D'.r b := fun e9 => (S.ij b k (Nat.le_refl _) (by omega) h2).1 e9.symm
        rw [F.fr _ _ Nk.l (n4 _ _ (.inl rfl) nb), F.fi _ _ Nk.l (n4 _ _ (.inr rfl) nb), lk.1, lk.2]
        refine ⟨?_, rfl⟩
        cases T'.pa k with
        | none => rfl
        | some x => show some (D'.r x) = some _; rw [u1]
  · rw [u1, Ea.1, F.fr _ _ N.n0.l (n4 _ _ (.inl rfl) (by have := (zS b (Nat.le_refl _) hbb).1; omega))]
    exact N.rt
  · rw [u1, u2, u5]
    rcases Nat.lt_or_ge k b with l | l
    · have zk := N.z k h1 l
      have Ek := E k l
      rw [Ek.1, Ek.2.1, Ek.2.2.2.2]
      refine ⟨zk.1, zk.2.1, ?_, zk.2.2.2⟩
      by_cases e : k = a
      · rw [e, u3a]
        rcases hd with e1 | ⟨e1, e2⟩
        · rw [e1, ← e]; exact zk.2.2.1
        · rw [e1]; exact e2
      · rw [u3 k e, Ek.2.2.1]; exact zk.2.2.1
    · have zk := zS k l h2
      rw [u3 k (by omega)]
      omega
  · rw [u1, u1, u2, u2, u5, u5]
    have cdq : ∀ k, a ≤ k → k < b' → k ≠ a → (D'.upd a (D.r a) (D.cl a) cd' cm' (D.va a)).cd k < c1.sz := by
      intro k h1 h2 h3
      rw [u3 k h3]
      rcases Nat.lt_or_ge k b with l | l
      · rw [(E k l).2.2.1]; exact (N.nd k (by omega) l).ls.dl
      · exact (S.nd k l h2).ls.dl
    have cdne : (D'.upd a (D.r a) (D.cl a) cd' cm' (D.va a)).cd i ≠ (D'.upd a (D.r a) (D.cl a) cd' cm' (D.va a)).cd k := by
      by_cases e : i = a
      · rw [e, u3a]
        rcases hd with e1 | ⟨e1, _⟩
        · rw [u3 k (by omega), e1]
          rcases Nat.lt_or_ge k b with l | l
          · rw [(E k l).2.2.1]; exact (N.ij a k (Nat.le_refl _) (by omega) l).2.2.1
          · have := (zS k l h3).2.2.1; omega
        · have := cdq k (by omega) h3 (by omega); omega
      · rw [u3 i e, u3 k (by omega)]
        rcases Nat.lt_or_ge k b with l | l
        · rw [(E k l).2.2.1, (E i (by omega)).2.2.1]; exact (N.ij i k h1 h2 l).2.2.1
        · rcases Nat.lt_or_ge i b with l2 | l2
          · rw [(E i l2).2.2.1]
            have := (zS k l h3).2.2.1
            have := (hlt i h1 l2).2.2.1
            omega
          · exact (S.ij i k l2 h2 h3).2.2.1
    rcases Nat.lt_or_ge k b with l | l
    · have Ek := E k l
      have Ei := E i (by omega)
      have ij := N.ij i k h1 h2 l
      rw [Ek.1, Ek.2.1, Ek.2.2.2.2, Ei.1, Ei.2.1, Ei.2.2.2.2]
      exact ⟨ij.1, ij.2.1, cdne, ij.2.2.2⟩
    · rcases Nat.lt_or_ge i b with l2 | l2
      · have Ei := E i l2
        have zk := zS k l h3
        have li := hlt i h1 l2
        rw [Ei.1, Ei.2.1, Ei.2.2.2.2]
        exact ⟨by omega, by omega, cdne, by omega⟩
      · have ij := S.ij i k l2 h2 h3
        exact ⟨ij.1, ij.2.1, cdne, ij.2.2.2⟩
end
