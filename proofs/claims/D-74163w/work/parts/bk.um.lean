/-! plain: um -/
set_option maxRecDepth 100000
section
variable {h h0 : AH} {o jn tpa : Nat} {X : AX} {L : GA} {A : PG} {g : Nat} {ind : Nat → Int32} {V V' : Tv} {sz sz' : Nat → Nat} {gv : Nat → Int32} {D D1 : TA} {k : Nat} {P : PT}
variable {zz i0 ga w : Nat} {hsh : Option (Nat × Nat)} {B : IA} {tu un : Nat} {s : TjS} {v : Vl}

/-- those that go are taken out of the row. -/
theorem px_gT1 (E : GrH h0.c o jn tpa X L A g ind V V' sz sz' gv D D1 k P zz i0 ga w hsh B tu un s v) (F : Fr W0 h0.c h.c)
    {st sd sm9 : Nat} (LS : Ls h.c st sd sm9 V.n D.r) (gst : h0.sz ≤ st) (gsd : h0.sz ≤ sd)
    {oi a0 : Nat} (koi : h.kd oi = (40, 40)) (loi : oi < h.sz) (goi : h0.sz ≤ oi)
    (ka0 : h.kd a0 = (42, 320)) (la0 : a0 < h.sz) (ga0 : h0.sz ≤ a0) (va0 : ∀ q, q < 320 → h.ai a0 q = iP (ktQ A V s k (8 * (k + sz k)) q))
    (hc : 96 ≤ h.rc) (hs : 6497 ≤ h.rs) {Q : AH → Prop} (hQ : ∀ h', CRep h'.c o jn tpa (X.cg A V' sz' gv (gDue (istO A.g V gv) k (sz k) P.V.n (A.g.ins (V.sm A.g k))) (gNew k P.V.n) (gOld (istO A.g V gv).val k (sz k) P.V.n)) → Q h') : gT1 o (some (D.r k)) (some (D1.r 0)) oi st (some i0) (some a0) h Q := by
  have G := E.G
  have K := G.K
  have hk := G.hk
  obtain ⟨m1, m2, m3, m4⟩ := G.m1
  have v40 := K.n40
  have TT0 := E.T.R.I.K.R
  have TT := TT0.w0 F
  have h0h : h0.sz ≤ h.sz := F.sz
  have lst : st < h.sz := LS.al
  have lsd : sd < h.sz := LS.dl
  have kst : (h.kd st).1 = 23 := LS.k
  have ksd : h.kd sd = (44, sm9) := LS.dk
  have x105 : h.fr 105 o = some D.t := TT.xt
  obtain ⟨b0, eb⟩ : ∃ b0, b0 = h.sz := ⟨_, rfl⟩
  unfold gT1
  rw [x105, adr_some]
  refine ⟨nn_of rfl TT.xk, nn_of rfl TT.tk, 1, 2, ⟨by omega, by omega⟩, px_from (h := h.srm 1 2) (Nat.le_refl _) (Nat.le_refl _) ?_⟩
  intro h5 F5 k5 q1 q0 z5 _ _ h6 e6
  have ez1 : (h.srm 1 2).sz = h.sz := rfl
  rw [ez1, ← eb] at k5 q1 q0 z5 ⊢
  have F6 : Fr W0 h.c h6.c := by rw [e6]; exact F5
  have z6 : h6.sz = b0 + 1 := by rw [e6]; exact z5
  have c6 : h6.rc = h.rc - 1 := by rw [e6]; rfl
  have s6 : h6.rs = h.rs - 2 := by rw [e6]; rfl
  have T6 := TT.w0 F6
  refine ⟨fun r U => r = some (b0 + 1) ∧ Fr W0 h.c U.c ∧ It2 U.c D (b0 + 1) b0 k k ∧ U.sz = b0 + 2 ∧ U.rc = h.rc - 2 ∧ U.rs = h.rs - 4, .inr ⟨nn_of rfl (by rw [e6]; exact k5), 1, 2, ⟨by omega, by omega⟩, ?_⟩, ?_⟩
  · rw [adr_some]
    refine px_it19 (h := h6.srm 1 2) hk T6 (by rw [e6]; exact k5) (by show b0 < h6.sz; omega) (by rw [e6]; exact q1) (by rw [e6]; exact q0) (Nat.le_refl _) (Nat.le_refl _) ?_
    intro h7 F7 I7 z7 _ _ h8 e8
    have ez6 : (h6.srm 1 2).sz = h6.sz := rfl
    rw [ez6, z6] at I7 ⊢
    rw [ez6] at z7
    exact ⟨rfl, by rw [e8]; exact F6.trans F7, by rw [e8]; exact I7, by rw [e8]; show h7.sz = _; omega, by rw [e8]; show h6.rc - 1 = _; omega, by rw [e8]; show h6.rs - 2 = _; omega⟩
  rintro r U0 ⟨rfl, FU0, IU0, zU0, cU0, sU0⟩
  refine eachT (L := L) (o := o) K hk (WL st sd) (fun i _ U => Fr (WL st sd) h.c U.c ∧ Ls U.c st sd sm9 (V.n - i) (fun j => if j < k then D.r j else D.r (j + i)) ∧ b0 + 2 ≤ U.sz ∧ U.rc = h.rc - 2 ∧ U.rs = h.rs - 4) IU0 ⟨FU0.mono (fun _ _ _ hh => hh.elim), (LS.keep FU0 id id id).congr (fun j _ => by split <;> rfl), by omega, cU0, sU0⟩ (fun i s' U hh => ?_) ⟨fun hh => ?_, fun hh => ?_, fun hh => ?_, fun hh => ?_⟩ ?_ ?_ ?_
  · exact TT0.w0 (F.trans' hh.1 (fun f b hb hh => by
      have h9 : b < h0.sz := hb
      rcases hh with hh | hh <;> omega))
  · rcases hh with hh | hh <;> omega
  · rcases hh with hh | hh <;> omega
  · rcases hh with hh | hh <;> omega
  · rcases hh with hh | hh <;> omega
  · rintro i s' U U' ⟨FU, LU, zU, cU, sU⟩ FW c' r' z'
    refine ⟨FU.trans' FW (fun f b hb hh => ?_), LU.keep FW (fun hh => by have := hh.1; omega) (fun hh => by have := hh.1; omega) (fun hh => by have := hh.1; omega), by omega, by omega, by omega⟩
    have h1 : b < h.sz := hb
    have h2 := hh.2
    omega
  · rintro s' U ⟨FU, LU, zU, cU, sU⟩
    have F0U : Fr W0 h0.c U.c := F.trans' FU (fun f b hb hh => by
      have h9 : b < h0.sz := hb
      rcases hh with hh | hh <;> omega)
    have na : ∀ a, (h.kd a).1 ≠ 44 → ¬ WL st sd 0 a := fun a ha hh => by
      rcases hh with hh | hh
      · omega
      · rw [hh.2, ksd] at ha; exact ha rfl
    have uz : h.sz ≤ U.sz := FU.sz
    exact px_gT2 (h0 := h0) E F0U LU gst gsd ((FU.kd oi loi).trans koi) (by omega) goi ((FU.kd a0 la0).trans ka0) (by omega) ga0 (fun q hq => by rw [show U.ai a0 = h.ai a0 from FU.ai a0 la0 (na a0 (by rw [ka0]; decide))]; exact va0 q hq) (by omega) (by omega) hQ
  · rintro i s' U KK hi ⟨FU, LU, zU, cU, sU⟩ hK
    have F0U : Fr W0 h0.c U.c := F.trans' FU (fun f b hb hh => by
      have h9 : b < h0.sz := hb
      rcases hh with hh | hh <;> omega)
    have TU := TT0.w0 F0U
    have hin : k + i < V.n := by omega
    have N := TU.nd _ hin
    refine ⟨.inr (nn_of rfl N.k), nn_of rfl LU.k, ?_⟩
    have O : LsO U.c (V.n - i) (fun j => if j < k then D.r j else D.r (j + i)) := fun j hj => by
      have key : ∀ e, e < V.n → D.r e < U.c.sz ∧ stk 44 (U.c.kd (D.r e)).1 = true := fun e he => by
        have Ne := TU.nd e he
        exact ⟨Ne.l, by rw [Ne.k]; rfl⟩
      show (if j < k then D.r j else D.r (j + i)) < U.c.sz ∧ stk 44 (U.c.kd (if j < k then D.r j else D.r (j + i))).1 = true
      by_cases hjk : j < k
      · rw [if_pos hjk]; exact key j (by omega)
      · rw [if_neg hjk]; exact key (j + i) (by omega)
    refine pc_remove (h := U.srm 0 0) LU O (by omega) (w := D.r (k + i)) (j := k) N.k (by omega) (by rw [if_neg (Nat.lt_irrefl k)]) (fun j hj e => ?_) ?_
    · rw [if_pos hj] at e
      have := (E.T.ij j (k + i) (by omega) hin).1 e
      omega
    · intro h' F' L' z' c' r' h69 e69
      have F69 : Fr (WL st sd) U.c h69.c := by rw [e69]; exact F'
      refine hK _ h69 ⟨FU.trans F69, ?_, by rw [e69]; show b0 + 2 ≤ h'.sz; rw [z']; exact zU, by rw [e69]; exact cU, by rw [e69]; exact sU⟩ F69
      have : Ls h69.c st sd sm9 (V.n - i - 1) (fun j => if j < k then (fun j => if j < k then D.r j else D.r (j + i)) j else (fun j => if j < k then D.r j else D.r (j + i)) (j + 1)) := by rw [e69]; exact L'
      rw [show V.n - (i + 1) = V.n - i - 1 by omega]
      refine this.congr (fun j hj => ?_)
      dsimp only
      by_cases hjk : j < k
      · rw [if_pos hjk, if_pos hjk, if_pos hjk]
      · rw [if_neg hjk, if_neg hjk, if_neg (by omega), show j + 1 + i = j + (i + 1) by omega]
theorem px_grafts (E : GrH h.c o jn tpa X L A g ind V V' sz sz' gv D D1 k P zz i0 ga w hsh B tu un s v) (hc : 144 ≤ h.rc) (hs : 9312 ≤ h.rs) {Q : AH → Prop} (hQ : ∀ h', CRep h'.c o jn tpa (X.cg A V' sz' gv (gDue (istO A.g V gv) k (sz k) P.V.n (A.g.ins (V.sm A.g k))) (gNew k P.V.n) (gOld (istO A.g V gv).val k (sz k) P.V.n)) → Q h') : wp_X0_grafts o (some (D.r k)) (some (D1.r 0)) h Q := by
  have G := E.G
  have K := G.K
  have hk := G.hk
  have n1 := K.n1
  have v40 := K.n40
  have s0 := K.s0
  have IS := istO_I gv E.cg.W K.WF E.cg.Y
  have TT0 := E.T.R.I.K.R
  have x6 : h.fr 106 o = some i0 := E.T.fi
  refine grafts_eq ?_
  rw [x6, show ni 40 = 40 from rfl]
  refine ⟨E.B0.nn, 3, 324, ⟨by omega, by omega⟩, px_knotsOf (h := h.srm 3 324) IS K E.cg E.T.R x6 hk (Nat.le_refl _) (Nat.le_refl _) ?_⟩
  intro h3 F3 k3 z3 v3 _ _ h4 e4
  have ez : (h.srm 3 324).sz = h.sz := rfl
  rw [ez] at k3 z3 v3 ⊢
  have F4 : Fr W0 h.c h4.c := by rw [e4]; exact F3
  have k4 : h4.kd h.sz = (42, 320) := by rw [e4]; exact k3
  have z4 : h.sz + 3 ≤ h4.sz := by rw [e4]; exact z3
  have v4 : ∀ q, q < 320 → h4.ai h.sz q = iP (ktQ A V s k (8 * (k + sz k)) q) := by rw [e4]; exact v3
  have c4 : h4.rc = h.rc - 3 := by rw [e4]; rfl
  have s4 : h4.rs = h.rs - 324 := by rw [e4]; rfl
  refine ⟨⟨by decide, by decide, by omega, by rw [show ni 40 = 40 from rfl]; omega⟩, ?_⟩
  intro h8 e8
  obtain ⟨oi, eoi⟩ : ∃ oi, oi = h4.sz := ⟨_, rfl⟩
  have F8 : Fr W0 h4.c h8.c := by rw [e8]; exact (Fr.refl _).new _ _ _
  have z8 : h8.sz = oi + 1 := by rw [e8, eoi]; rfl
  have k8 : h8.kd oi = (40, 40) := by rw [e8, new_kd, if_pos eoi]
  have c8 : h8.rc = h.rc - 4 := by rw [e8]; show h4.rc - 1 = _; omega
  have s8 : h8.rs = h.rs - 364 := by rw [e8]; show h4.rs - 40 = _; omega
  rw [← eoi, z8]
  refine ⟨⟨by omega, by omega⟩, ?_⟩
  intro h9 e9
  have F9 : Fr W0 h8.c h9.c := by rw [e9]; exact (Fr.refl _).new _ _ _
  have z9 : h9.sz = oi + 2 := by rw [e9]; show h8.sz + 1 = _; omega
  have k9 : (h9.kd (oi + 1)).1 = 23 := by rw [e9, new_kd, if_pos z8.symm]
  have i9 : h9.fi 2302 (oi + 1) = 0 := by rw [e9, new_fi, if_pos z8.symm]
  have c9 : h9.rc = h.rc - 5 := by rw [e9]; show h8.rc - 1 = _; omega
  have s9 : h9.rs = h.rs - 367 := by rw [e9]; show h8.rs - 3 = _; omega
  refine ⟨1, 4, ⟨by omega, by omega⟩, ?_⟩
  refine pc_initL (h := h9.srm 1 4) (n := 4) k9 (by show oi + 1 < h9.sz; omega) i9 (by decide) (by decide) (Nat.le_refl _) (Nat.le_refl _) ?_
  intro h11 F11 L11 z11 _ _ h12 e12
  have ez9 : (h9.srm 1 4).sz = h9.sz := rfl
  rw [ez9, z9] at L11
  rw [ez9] at z11
  have F12 : Fr (fun f b => b = oi + 1 ∧ (f = 2300 ∨ f = 2301)) h9.c h12.c := by rw [e12]; exact F11
  have L12 : Ls h12.c (oi + 1) (oi + 2) 4 0 D.r := by rw [e12]; exact L11 D.r
  have z12 : h12.sz = oi + 3 := by rw [e12]; show h11.sz = _; omega
  have c12 : h12.rc = h.rc - 6 := by rw [e12]; show h9.rc - 1 = _; omega
  have s12 : h12.rs = h.rs - 371 := by rw [e12]; show h9.rs - 4 = _; omega
  have G9 : Fr W0 h4.c h9.c := F8.trans F9
  have G12 : Fr W0 h4.c h12.c := G9.trans' F12 (fun f b hb hh => by have h9 : b < h4.sz := hb; omega)
  have H12 : Fr W0 h.c h12.c := F4.trans G12
  have T12 := TT0.w0 H12
  have koi12 : h12.kd oi = (40, 40) := by
    rw [show h12.kd oi = h9.kd oi from F12.kd oi (by show oi < h9.sz; omega), show h9.kd oi = h8.kd oi from F9.kd oi (by show oi < h8.sz; omega)]; exact k8
  have ka12 : h12.kd h.sz = (42, 320) := (G12.kd _ (by show h.sz < h4.sz; omega)).trans k4
  have va12 : ∀ q, q < 320 → h12.ai h.sz q = iP (ktQ A V s k (8 * (k + sz k)) q) := fun q hq => by
    rw [show h12.ai h.sz = h4.ai h.sz from G12.ai _ (by show h.sz < h4.sz; omega) id]; exact v4 q hq
  have x105 : h12.fr 105 o = some D.t := T12.xt
  have rt12 : h12.fr 1600 D.t = some (D.r 0) := (H12.fr _ _ TT0.tl id).trans E.T.rt
  rw [x105, adr_some]
  refine ⟨nn_of rfl T12.xk, nn_of rfl T12.tk, 2, 4, ⟨by omega, by omega⟩, px_itT (h := h12.srm 2 4) (by omega) T12 rt12 (Nat.le_refl _) (Nat.le_refl _) ?_⟩
  intro h19 F19 I19 z19 _ _ h20 e20
  have ez12 : (h12.srm 2 4).sz = h12.sz := rfl
  rw [ez12, z12] at I19
  rw [ez12, z12] at z19
  rw [ez12, z12]
  have F20 : Fr W0 h12.c h20.c := by rw [e20]; exact F19
  have I20 : It2 h20.c D (oi + 3 + 1) (oi + 3) 0 0 := by rw [e20]; exact I19
  have z20 : h20.sz = oi + 5 := by rw [e20]; show h19.sz = _; omega
  have c20 : h20.rc = h.rc - 8 := by rw [e20]; show h12.rc - 2 = _; omega
  have s20 : h20.rs = h.rs - 375 := by rw [e20]; show h12.rs - 4 = _; omega
  refine eachT (L := L) (o := o) K (k := 0) (by omega) (fun f b => (b = oi + 1 ∧ 2300 ≤ f ∧ f ≤ 2302) ∨ f = 0) (fun i _ U => Fr W0 h.c U.c ∧ (∃ d m, Ls U.c (oi + 1) d m i D.r ∧ 1 ≤ m ∧ h.sz ≤ d) ∧ U.kd oi = (40, 40) ∧ U.kd h.sz = (42, 320) ∧ (∀ q, q < 320 → U.ai h.sz q = iP (ktQ A V s k (8 * (k + sz k)) q)) ∧ oi + 5 ≤ U.sz ∧ U.rc + i = h.rc - 8 ∧ U.rs + 61 * i = h.rs - 375) I20 ⟨H12.trans F20, ⟨oi + 2, 4, L12.keep F20 id id id, by decide, by omega⟩, (F20.kd oi (by show oi < h12.sz; omega)).trans koi12, (F20.kd _ (by show h.sz < h12.sz; omega)).trans ka12, fun q hq => ?_, by omega, by omega, by omega⟩ (fun i s' U hh => TT0.w0 hh.1) ⟨fun hh => by omega, fun hh => by omega, fun hh => by omega, fun hh => by omega⟩ ?_ ?_ ?_
  · rw [show h20.ai h.sz = h12.ai h.sz from F20.ai _ (by show h.sz < h12.sz; omega) id]; exact va12 q hq
  · rintro i s' U U' ⟨F, ⟨d, m, LU, hm, hd⟩, kU, aU, vU, zU, cU, sU⟩ FW c' r' z'
    refine ⟨F.trans' FW (fun f b hb hh => ?_), ⟨d, m, LU.keep FW (fun hh => by have := hh.1; omega) (fun hh => by have := hh.1; omega) (fun hh => by have := hh.1; omega), hm, hd⟩, (FW.kd oi (by show oi < U.sz; omega)).trans kU, (FW.kd _ (by show h.sz < U.sz; omega)).trans aU, fun q hq => ?_, by omega, by omega, by omega⟩
    · have h1 : b < h.sz := hb
      have h2 := hh.2
      omega
    · rw [show U'.ai h.sz = U.ai h.sz from FW.ai _ (by show h.sz < U.sz; omega) (fun hh => by have := hh.1; omega)]; exact vU q hq
  · rintro s' U ⟨F, ⟨d, m, LU, hm, hd⟩, kU, aU, vU, zU, cU, sU⟩
    rw [s0] at LU cU sU
    exact px_gT1 (h0 := h) E F LU (by omega) hd kU (by omega) (by omega) aU (by omega) (Nat.le_refl _) vU (by omega) (by omega) hQ
  · rintro i s' U KK hi ⟨F, ⟨d, m, LU, hm, hd⟩, kU, aU, vU, zU, cU, sU⟩ hK
    rw [s0] at hi
    rw [Nat.zero_add]
    have TU := TT0.w0 F
    have N := TU.nd i hi
    have ldU : d < U.sz := LU.dl
    have kdU : U.kd d = (44, m) := LU.dk
    refine ⟨.inr (nn_of rfl N.k), nn_of rfl LU.k, 1, 61, ⟨by omega, by omega⟩, ?_⟩
    have O : LsO U.c i D.r := fun j hj => by
      have Nj := TU.nd j (by omega)
      exact ⟨Nj.l, by rw [Nj.k]; rfl⟩
    refine pc_add (h := U.srm 1 61) LU O hm (by omega) N.l (by show stk 44 (U.kd (D.r i)).1 = true; rw [show (U.kd (D.r i)).1 = 15 from N.k]; rfl) (Nat.le_refl _) (grw61 (by omega)) ?_
    intro h' d' m' F' L' hm' hd' _ _ h13 e13
    have F13 : Fr (WL (oi + 1) d) U.c h13.c := by rw [e13]; exact F'
    have uz : U.sz ≤ h13.sz := F13.sz
    have nz : ∀ a, (U.kd a).1 ≠ 44 → ¬ WL (oi + 1) d 0 a := fun a ha hh => by
      rcases hh with hh | hh
      · omega
      · rw [hh.2, kdU] at ha; exact ha rfl
    refine hK _ h13 ⟨F.trans' F13 (fun f b hb hh => ?_), ⟨d', m', ?_, hm', ?_⟩, (F13.kd oi (by show oi < U.sz; omega)).trans kU, (F13.kd _ (by show h.sz < U.sz; omega)).trans aU, fun q hq => ?_, by omega, ?_, ?_⟩ (F13.mono (fun f b _ hh => ?_))
    · have h9 : b < h.sz := hb
      rcases hh with hh | hh <;> omega
    · have : Ls h13.c (oi + 1) d' m' (i + 1) (updN D.r i (D.r i)) := by rw [e13]; exact L'
      refine this.congr (fun j hj => ?_)
      by_cases e : j = i
      · rw [e, updN_same]
      · rw [updN_ne _ _ e]
    · rcases hd' with e | e
      · omega
      · have e' : d' = U.sz := e
        omega
    · rw [show h13.ai h.sz = U.ai h.sz from F13.ai _ (by show h.sz < U.sz; omega) (nz _ (by rw [aU]; decide))]; exact vU q hq
    · rw [e13]; show U.rc - 1 + (i + 1) = _; omega
    · rw [e13]; show U.rs - 61 + 61 * (i + 1) = _; omega
    · rcases hh with hh | hh
      · exact .inl ⟨hh.1, by omega, by omega⟩
      · exact .inr hh.1
end
