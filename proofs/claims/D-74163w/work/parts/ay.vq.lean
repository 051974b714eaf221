/-! plain: vq -/
set_option maxRecDepth 100000
section
variable {h : AH} {o jn tpa : Nat} {X : AX} {x y z u : Int32} {L : GA} {A : PG} {g : Nat} {ind : Nat → Int32} {Q : Int32 → AH → Prop} {V : Tv} {sz : Nat → Nat} {gv : Nat → Int32}
variable {lo q n : Nat} {tp : Nat → Nat} {t : Tk} {D : TA}

/-- a tree's addresses, the row told. -/
def TA.wl (D : TA) (t rl rd rm : Nat) : TA := (t, rl, rd, rm, D.r, D.cl, D.cd, D.cm, D.va)
theorem NdU.toQ {c : HC} {k : Nat} (N : NdU c L D V k (A.g.kn (V.pd k))) (h4 : c.fr 1504 (D.r k) = (V.pa k).map D.r) (h5 : V.pa k ≠ none → c.fi 1505 (D.r k) = I (V.pl k)) : NdQ c L D A.g V k := ⟨N.k, N.l, N.p, N.nu, h4, h5, N.ch, N.ls, N.va, N.vk, N.vl⟩
theorem NdS.toQ {c : HC} {w : Nat} (S : NdS c L D A.g V 0 V.n w) (K : trK A V sz) : ∀ k, k < V.n → NdQ c L D A.g V k := fun k hk => by
  by_cases e : k = 0
  · subst e
    refine (S.nd 0 (Nat.le_refl _) hk).toQ (by rw [S.rt hk, K.r]; rfl) (fun hh => absurd K.r hh)
  · obtain ⟨a, b⟩ := S.lk k (by omega) hk
    exact (S.nd k (Nat.zero_le _) hk).toQ a (fun _ => b)
theorem LiR.tr {c : HC} {t0 rl rd rm : Nat} (S : LiR c L D A.g V t0 rl rd rm V.n) (xk : (c.kd o).1 = 1) (xl : o < c.sz) (xt : c.fr 105 o = some t0) : TrR c L (D.wl t0 rl rd rm) A.g V o :=
  ⟨xk, xl, xt, S.tk, S.tl, S.rw_, S.ls, fun k hk => ⟨(S.nd k hk).k, (S.nd k hk).l, (S.nd k hk).p, (S.nd k hk).nu, (S.ix k hk).1, (S.ix k hk).2, (S.nd k hk).pa, (S.nd k hk).pl, (S.nd k hk).ch, (S.nd k hk).ls, (S.nd k hk).va, (S.nd k hk).vk, (S.nd k hk).vl⟩⟩
/-- what laying a tree writes of what there is. -/
def WTr (o : Nat) : Nat → Nat → Prop := fun f a => (a = o ∧ (f = 105 ∨ f = 106 ∨ f = 110)) ∨ f = 1502 ∨ f = 1503
theorem CgR.wtr {c c' : HC} (C : CgR c L A g ind) (F : Fr (WTr o) c c') : CgR c' L A g ind := C.keep F (fun f a hh => .inl (by unfold WTr at hh; omega))
theorem istO_eq (W : A.g.WF) (K : V.WF A.g) (RL : A.g.RL) : istO A.g V gv = V.ist A.g gv W K RL := dif_pos ⟨W, K, RL⟩
/-- a tree is laid: what is behind its reading. -/
theorem px_layTree (ok : X.OK) (B0 : CbR h.c o jn tpa) (Y0 : CtR h.c o tpa X) (Z0 : CoR h.c) (J0 : NzJ h.c) (I0 : CsI h.c) (hg : X.gr = some (A, ind)) {zz : Nat} {hs : Option (Nat × Nat)} (f3 : h.c.fr 103 o = some g) (zl : h.c.lo ≤ zz) (zs : zz ≤ h.c.sz) (C : CgR (h.c.cut zz) L A g ind) (f4 : h.c.fr 104 o = hs.map Prod.fst) (H : ∀ x sm, hs = some (x, sm) → ShR h.c x sm A.g) {w : Nat} (zw : zz ≤ w)
    (hw : ∀ x sm, hs = some (x, sm) → sm < w) (K : trK A V sz) (d0 : V.dp 0 = 0) (S : NdS h.c L D A.g V 0 V.n w) (hc : 100 ≤ h.rc) (hs' : 6000 ≤ h.rs) (hQ : ∀ h', CRep h'.c o jn tpa (AX.mk X.m X.tp X.st X.fk X.fp X.gr (some (V, sz, fun _ => 0)) none) → Q (I V.n) h') :
    nr h 4 ∧
    ∀ h41, h41 = h.new 16 0 4 →
    cl h41 fun mc45 ms46 => wp_X16_init h.sz (some o) (h41.srm mc45 ms46) fun h43 => ∀ h44, h44 = h43.srm (h41.rc - mc45) (h41.rs - ms46) →
    nn h44 (some o) 1 ∧
    ∀ h49, h49 = h44.sfr 105 o (some h.sz) →
    nn h49 (h49.fr 105 o) 16 ∧
    ∀ h51, h51 = h49.sfr 1600 (adr (h49.fr 105 o)) (some (D.r 0)) →
    nn h51 (h51.fr 105 o) 16 ∧
    cl h51 fun mc56 ms57 => wp_X16_numbers (adr (h51.fr 105 o)) (h51.srm mc56 ms57) fun h54 => ∀ h55, h55 = h54.srm (h51.rc - mc56) (h51.rs - ms57) →
    nr h55 13 ∧
    ∀ h59, h59 = h55.new 17 0 13 →
    cl h59 fun mc63 ms64 => wp_X17_init h55.sz (some o) (h59.srm mc63 ms64) fun h61 => ∀ h62, h62 = h61.srm (h59.rc - mc63) (h59.rs - ms64) →
    nn h62 (some o) 1 ∧
    ∀ h67, h67 = h62.sfr 106 o (some h55.sz) →
    nn h67 (h67.fr 106 o) 17 ∧
    wp_X17_reckonsAll (adr (h67.fr 106 o)) (h67.srm 0 0) fun h70 => ∀ h71, h71 = h70.srm h67.rc h67.rs →
    nn h71 (some o) 1 ∧
    ∀ h73, h73 = h71.sfi 110 o (-1) →
    nn h73 (h73.fr 105 o) 16 ∧
    nn h73 (h73.fr 1602 (adr (h73.fr 105 o))) 23 ∧
    wp_J12_size (adr (h73.fr 1602 (adr (h73.fr 105 o)))) (h73.srm 0 0) fun r76 h77 => ∀ h78, h78 = h77.srm h73.rc h73.rs →
    Q r76 h78 := by
  have n1 := K.n1
  have h40 := K.n40
  have ol : o < h.sz := B0.l
  have CH := C.up zs
  refine ⟨⟨by omega, by omega⟩, ?_⟩
  intro h41 e41
  have F41 : Fr W0 h.c h41.c := by rw [e41]; exact (Fr.refl h.c).new _ _ _
  have z41 : h41.sz = h.sz + 1 := by rw [e41]; rfl
  have r41 : h41.rc = h.rc - 1 ∧ h41.rs = h.rs - 4 := by rw [e41]; exact ⟨rfl, rfl⟩
  have k41 : (h41.kd h.sz).1 = 16 := by rw [e41, new_kd, if_pos rfl]
  refine ⟨3, 11, ⟨by omega, by omega⟩, ?_⟩
  refine px_treeInit (h := h41.srm 3 11) (yy := fun _ => 0) k41 (by show h.sz < h41.sz; omega) (Nat.le_refl _) (Nat.le_refl _) ?_
  intro h43 F43 g1 g2 g3 g4 L43 z43 _ _ h44 e44
  have zz41 : (h41.srm 3 11).sz = h.sz + 1 := z41
  rw [zz41] at g1 g2 g3 g4 L43 z43
  have c44 : h44.c = h43.c := by rw [e44]; rfl
  have F44 : Fr W0 h.c h44.c := by
    rw [c44]
    exact F41.trans' F43 (fun f b hb hh => by have l : b < h.sz := hb; have := hh.1; omega)
  have z44 : h44.sz = h.sz + 4 := by rw [e44]; exact z43
  have r44 : h44.rc = h.rc - 4 ∧ h44.rs = h.rs - 15 := by rw [e44]; show h41.rc - 3 = _ ∧ h41.rs - 11 = _; omega
  have k44 : (h44.kd o).1 = 1 := by rw [show h44.kd o = h.kd o from F44.kd o ol]; exact B0.k
  have t44 : (h44.kd h.sz).1 = 16 := by
    rw [show h44.kd h.sz = h43.kd h.sz from by rw [e44]; rfl, show h43.kd h.sz = h41.kd h.sz from F43.kd h.sz (by show h.sz < h41.sz; omega)]; exact k41
  refine ⟨nn_of rfl k44, ?_⟩
  intro h49 e49
  have x49 : h49.fr 105 o = some h.sz := by rw [e49, sfr_same]
  rw [x49, adr_some]
  refine ⟨nn_of rfl (by rw [e49]; exact t44), ?_⟩
  intro h51 e51
  have x51 : h51.fr 105 o = some h.sz := by rw [e51, sfr_ne _ _ _ _ (by decide)]; exact x49
  have F51 : Fr (fun f b => (f = 105 ∧ b = o) ∨ (f = 1600 ∧ b = h.sz)) h44.c h51.c := by
    rw [e51]
    refine Fr.sfr ?_ _ (fun _ => .inr ⟨rfl, rfl⟩)
    rw [e49]
    exact (Fr.refl h44.c).sfr _ (fun _ => .inl ⟨rfl, rfl⟩)
  have z51 : h51.sz = h.sz + 4 := by rw [e51, e49]; exact z44
  have r51 : h51.rc = h.rc - 4 ∧ h51.rs = h.rs - 15 := by rw [e51, e49]; exact r44
  have k51 : (h51.kd h.sz).1 = 16 := by rw [e51, e49]; exact t44
  have G51 : Fr (WTr o) h.c h51.c := (F44.mono (fun _ _ _ hh => hh.elim)).trans' F51 (fun f b hb hh => by
    have l : b < h.sz := hb
    rcases hh with hh | hh
    · exact .inl ⟨hh.2, .inl hh.1⟩
    · have := hh.2; omega)
  have a51 : ∀ b, b < h.c.sz → h51.ai b = h.ai b := fun b hb => G51.ai b hb (fun hh => by unfold WTr at hh; omega)
  have nd51 : ∀ k, k < V.n → NdQ h51.c L D A.g V k := fun k hk => (S.toQ K k hk).keep G51 (fun f hf hh => by unfold WTr at hh; omega) (fun hh => by unfold WTr at hh; omega) (fun hh => by unfold WTr at hh; omega) (fun hh => by unfold WTr at hh; omega)
  have w51 : h51.fr 1602 h.sz = some (h.sz + 2) := by
    rw [e51, sfr_ne _ _ _ _ (by decide), e49, sfr_ne _ _ _ _ (by decide), e44]; exact g4
  have L51 : Ls h51.c (h.sz + 2) (h.sz + 3) 4 0 (fun _ => 0) := by
    have : Ls h44.c (h.sz + 2) (h.sz + 3) 4 0 (fun _ => 0) := by rw [c44]; exact L43
    exact this.keep F51 (fun hh => by omega) (fun hh => by omega) (fun hh => by omega)
  have Nl := fun k (hk : k < V.n) => S.nd k (Nat.zero_le _) hk
  have nl51 : ∀ k, k < V.n → D.cl k ≠ h.sz + 2 ∧ D.cd k ≠ h.sz + 3 := fun k hk => by
    have l1 : D.cl k < h.sz := (Nl k hk).ls.al
    have l2 : D.cd k < h.sz := (Nl k hk).ls.dl
    omega
  have hij : ∀ j k, j < V.n → k < V.n → (D.r j = D.r k → j = k) ∧ (D.cl j = D.cl k → j = k) ∧ (D.cd j = D.cd k → j = k) ∧ (D.va j = D.va k → j = k) := by
    have key : ∀ j k, j < k → k < V.n → D.r j ≠ D.r k ∧ D.cl j ≠ D.cl k ∧ D.cd j ≠ D.cd k ∧ D.va j ≠ D.va k := fun j k hjk hk => S.ij j k (Nat.zero_le _) hjk hk
    intro j k hj hk
    rcases Nat.lt_trichotomy j k with l | l | l
    · obtain ⟨a, b, c, d⟩ := key j k l hk
      exact ⟨fun e => absurd e a, fun e => absurd e b, fun e => absurd e c, fun e => absurd e d⟩
    · exact ⟨fun _ => l, fun _ => l, fun _ => l, fun _ => l⟩
    · obtain ⟨a, b, c, d⟩ := key k j l hj
      exact ⟨fun e => absurd e.symm a, fun e => absurd e.symm b, fun e => absurd e.symm c, fun e => absurd e.symm d⟩
  rw [x51, adr_some]
  refine ⟨nn_of rfl k51, 2 * V.n, 65 * V.n, ⟨by omega, by omega⟩, ?_⟩
  refine px_numbers (h := h51.srm (2 * V.n) (65 * V.n)) K (fun j k hj hk => (hij j k hj hk).1) d0 k51 (by show h.sz < h51.sz; omega) w51 L51 (by decide) nd51 nl51 (by show h51.fr 1600 h.sz = _; rw [e51, sfr_same]) (Nat.le_refl _) (Nat.le_refl _) ?_
  intro h54 rd rm F54 S54 hrd _ _ h55 e55
  have c55 : h55.c = h54.c := by rw [e55]; rfl
  have S55 : LiR h55.c L D A.g V h.sz (h.sz + 2) rd rm V.n := by rw [c55]; exact S54
  have F55 : Fr (WLi (h.sz + 2) (h.sz + 3)) h51.c h55.c := by rw [c55]; exact F54
  have z55 : h.sz + 4 ≤ h55.sz := by have := F55.sz; have l : h51.sz ≤ h55.sz := this; omega
  have r55 : h55.rc = h.rc - 4 - 2 * V.n ∧ h55.rs = h.rs - 15 - 65 * V.n := by rw [e55]; show h51.rc - _ = _ ∧ h51.rs - _ = _; omega
  have hrd' : h.sz ≤ rd := by
    rcases hrd with e | e
    · omega
    · have l : h51.sz ≤ rd := e; omega
  have G55 : Fr (WTr o) h.c h55.c := G51.trans' F55 (fun f b hb hh => by
    have l : b < h.sz := hb
    unfold WLi at hh
    unfold WTr
    omega)
  have x55 : h55.fr 105 o = some h.sz := (F55.fr 105 o (by show o < h51.sz; omega) (fun hh => by unfold WLi at hh; omega)).trans x51
  refine ⟨⟨by omega, by omega⟩, ?_⟩
  intro h59 e59
  have F59 : Fr W0 h55.c h59.c := by rw [e59]; exact (Fr.refl h55.c).new _ _ _
  have z59 : h59.sz = h55.sz + 1 := by rw [e59]; rfl
  have k59 : (h59.kd h55.sz).1 = 17 := by rw [e59, new_kd, if_pos rfl]
  have f59 : ∀ f, h59.fi f h55.sz = 0 := fun f => by rw [e59, new_fi, if_pos rfl]
  have r59 : h59.rc = h55.rc - 1 ∧ h59.rs = h55.rs - 13 := by rw [e59]; exact ⟨rfl, rfl⟩
  have G59 : Fr (WTr o) h.c h59.c := G55.trans' F59 (fun _ _ _ hh => hh.elim)
  have o59 : o < h59.c.sz := by show o < h59.sz; omega
  have T59 : TrR h59.c L (D.wl h.sz (h.sz + 2) rd rm) A.g V o := (S55.keep0 (Nat.le_refl _) F59).tr (by rw [show h59.c.kd o = h.kd o from G59.kd o ol]; exact B0.k) o59 ((F59.fr 105 o (by show o < h55.sz; omega) id).trans x55)
  have C59 := CH.wtr G59
  refine ⟨8, 2560, ⟨by omega, by omega⟩, ?_⟩
  refine px_initI (h := h59.srm 8 2560) CH.W K.WF C59.X.S T59 k59 (by show h55.sz < h59.sz; omega) f59 (Nat.le_refl _) (Nat.le_refl _) ?_
  intro h61 B tu un s F61 R61 tz uz zB _ _ h62 e62
  have c62 : h62.c = h61.c := by rw [e62]; rfl
  have F62 : Fr (WIo h55.sz) h59.c h62.c := by rw [c62]; exact F61
  have R62 : InR h62.c L (D.wl h.sz (h.sz + 2) rd rm) A.g V o h55.sz B tu un s := by rw [c62]; exact R61
  have G62 : Fr (WTr o) h.c h62.c := G59.trans' F62 (fun f b hb hh => by have l : b < h.sz := hb; have := hh.1; omega)
  have C62 := CH.wtr G62
  have ga62 : h62.c.fr 1601 h.sz = some (h.sz + 1) ∧ h62.c.kd (h.sz + 1) = (40, 4) ∧ h.sz + 1 < h62.c.sz ∧ ∀ j, h62.c.ai (h.sz + 1) j = 0 := by
    have t4 : h.sz < h44.c.sz := by show h.sz < h44.sz; omega
    have t4' : h.sz + 1 < h44.c.sz := by show h.sz + 1 < h44.sz; omega
    have t5 : h.sz < h51.c.sz := by show h.sz < h51.sz; omega
    have t5' : h.sz + 1 < h51.c.sz := by show h.sz + 1 < h51.sz; omega
    have t6 : h.sz < h55.c.sz := by show h.sz < h55.sz; omega
    have t6' : h.sz + 1 < h55.c.sz := by show h.sz + 1 < h55.sz; omega
    have t7 : h.sz < h59.c.sz := by show h.sz < h59.sz; omega
    have t7' : h.sz + 1 < h59.c.sz := by show h.sz + 1 < h59.sz; omega
    refine ⟨?_, ?_, Nat.lt_of_lt_of_le t7' F62.sz, fun j => ?_⟩
    · rw [F62.fr _ _ t7 (fun hh => by have := hh.2; omega), F59.fr _ _ t6 id, F55.fr _ _ t5 (fun hh => by unfold WLi at hh; omega), F51.fr _ _ t4 (fun hh => by omega), c44]; exact g1
    · rw [F62.kd _ t7', F59.kd _ t6', F55.kd _ t5', F51.kd _ t4', c44]; exact g2
    · rw [F62.ai _ t7' (fun hh => by have := hh.2; omega), F59.ai _ t6' id, F55.ai _ t5' (fun hh => by unfold WLi at hh; omega), F51.ai _ t4' (fun hh => by omega), c44]; exact g3 j
  have K62 : RkB h62.c L (D.wl h.sz (h.sz + 2) rd rm) A.g V o h55.sz B tu un s (h.sz + 1) (fun _ => 0) := ⟨R62, C62.U, ⟨ga62.1, ga62.2.1, ga62.2.2.1, fun j _ => ga62.2.2.2 j⟩⟩
  have k62 : (h62.kd o).1 = 1 := by rw [show h62.kd o = h.kd o from G62.kd o ol]; exact B0.k
  refine ⟨nn_of rfl k62, ?_⟩
  intro h67 e67
  have F67 : Fr (fun f b => f = 106 ∧ b = o) h62.c h67.c := by rw [e67]; exact (Fr.refl h62.c).sfr _ (fun _ => ⟨rfl, rfl⟩)
  have K67 := K62.keep5 F67 (fun f a hh => .inl (by have := hh.1; omega))
  have x67 : h67.fr 106 o = some h55.sz := by rw [e67, sfr_same]
  have G67 : Fr (WTr o) h.c h67.c := G62.trans' F67 (fun f b hb hh => .inl ⟨hh.2, .inr (.inl hh.1)⟩)
  have dv : VaD (D.wl h.sz (h.sz + 2) rd rm) V := fun j k hj hk e => (hij j k hj hk).2.2.2 e
  have V67 : VaR h67.c (D.wl h.sz (h.sz + 2) rd rm) V (fun _ => 0) := fun k a hk ha => by
    show h67.c.ai (D.va k) a = 0
    rw [G67.ai _ (Nl k hk).vl (fun hh => by unfold WTr at hh; omega)]
    exact (Nl k hk).vz a ha
  rw [x67, adr_some]
  refine ⟨nn_of rfl K67.I.K.J.k, px_reckonsAll (h := h67.srm 0 0) CH.W K.WF CH.Y dv K67 (Fr.refl _) V67 ?_⟩
  intro h70 v F70 V70 N70 _ _ h71 e71
  have c71 : h71.c = h70.c := by rw [e71]; rfl
  have F71 : Fr (WK (D.wl h.sz (h.sz + 2) rd rm) V tu un) h67.c h71.c := by rw [c71]; exact F70
  have K71 := K67.keep F71
  have TT := K71.I.K.R
  refine ⟨nn_of rfl TT.xk, ?_⟩
  intro h73 e73
  have F73 : Fr (fun f b => f = 110 ∧ b = o) h71.c h73.c := by rw [e73]; exact (Fr.refl h71.c).sfi _ (fun _ => ⟨rfl, rfl⟩)
  have K73 := K71.keepW F73 (fun f a hh => .inr (.inl hh.1))
  have T73 := K73.I.K.R
  have x73 : h73.fr 105 o = some h.sz := T73.xt
  have w73 : h73.fr 1602 h.sz = some (h.sz + 2) := T73.rw_
  have tk73 : (h73.kd h.sz).1 = 16 := T73.tk
  have l73 : Ls h73.c (h.sz + 2) rd rm V.n D.r := T73.rl
  rw [x73, adr_some, w73, adr_some]
  refine ⟨nn_of rfl tk73, nn_of rfl l73.k, pc_size (h := h73.srm 0 0) l73 (pu ?_)⟩
  -- all of it
  have hva : ∀ k, k < V.n → D.va k < h.sz := fun k hk => (Nl k hk).vl
  have vkk : ∀ k, k < V.n → h67.c.kd (D.va k) = (40, 8) := fun k hk => (K67.I.K.R.nd k hk).vk
  have G73 : Fr (fun f a => WTr o f a ∨ (f = 0 ∧ ∃ k, k < V.n ∧ a = D.va k)) h.c h73.c := by
    have F9 : Fr (fun f a => WTr o f a ∨ (f = 0 ∧ ∃ k, k < V.n ∧ a = D.va k)) h.c h71.c := (G67.mono (fun _ _ _ hh => .inl hh)).trans' F71 (fun f b hb hh => by
      have l : b < h.sz := hb
      rcases hh.2 with e | e | e
      · exact .inr ⟨hh.1, e⟩
      · have := zB.2.2.2.2.2.2.1
        have e2 : (h59.srm 8 2560).sz = h59.sz := rfl
        omega
      · have := zB.2.2.2.2.2.2.2
        have e2 : (h59.srm 8 2560).sz = h59.sz := rfl
        omega)
    exact F9.trans' F73 (fun f b hb hh => .inl (.inl ⟨hh.2, .inr (.inr hh.1)⟩))
  have e59' : (h59.srm 8 2560).sz = h59.sz := rfl
  rw [e59'] at zB
  have nof : ∀ f a, f ≠ 0 → (f ≠ 105 ∧ f ≠ 106 ∧ f ≠ 110 ∧ f ≠ 1502 ∧ f ≠ 1503) → ¬ (WTr o f a ∨ (f = 0 ∧ ∃ k, k < V.n ∧ a = D.va k)) := fun f a h1 h2 hh => by
    rcases hh with hh | hh
    · unfold WTr at hh; omega
    · exact h1 hh.1
  have noz : ∀ {a t m : Nat}, h.c.kd a = (t, m) → (t, m) ≠ (40, 8) → ¬ (WTr o 0 a ∨ ((0 : Nat) = 0 ∧ ∃ k, k < V.n ∧ a = D.va k)) := fun {a t m} hk h8 hh => by
    rcases hh with hh | ⟨_, k, hk', e⟩
    · unfold WTr at hh; omega
    · have e2 := (Nl k hk').vk
      rw [← e, hk] at e2
      exact h8 e2
  have eI : istO A.g V (fun _ => 0) = V.ist A.g (fun _ => 0) CH.W K.WF CH.Y := istO_eq CH.W K.WF CH.Y
  have B73 : CbR h73.c o jn tpa := B0.keep G73 (nof _ _ (by decide) (by decide)) (nof _ _ (by decide) (by decide)) (noz B0.j2 (by decide))
  have Y73 : CtR h73.c o tpa X := by
    refine ⟨?_, ?_, ?_, ?_, ?_⟩
    · rw [G73.fi _ _ B0.l (nof _ _ (by decide) (by decide))]; exact Y0.n
    · rw [G73.ai _ B0.t3 (noz B0.t2 (by decide))]; exact Y0.tt
    · rw [G73.fi _ _ B0.l (nof _ _ (by decide) (by decide))]; exact Y0.st
    · rw [G73.fi _ _ B0.l (nof _ _ (by decide) (by decide))]; exact Y0.fk
    · rw [G73.fi _ _ B0.l (nof _ _ (by decide) (by decide))]; exact Y0.fp
  have Z73 : CoR h73.c := Z0.keep' G73 (fun a => nof _ _ (by decide) (by decide)) (fun a => nof _ _ (by decide) (by decide)) (fun v hv => noz (t := (h.c.kd v).1) (m := (h.c.kd v).2) rfl (fun e => by have := (Prod.mk.inj e).1; omega))
  have CI73 : CsI h73.c := I0.keep G73 (noz I0.k (by decide)) (fun a => nof _ _ (by decide) (by decide))
  refine hQ h73 (CRep.ofT (V := V) (sz := sz) (gv := fun _ => 0) (g := g) (L := L) (z := zz) (hs := hs) (D := D.wl h.sz (h.sz + 2) rd rm) (i := h55.sz) (B := B) (tu := tu) (un := un) (s := s) (ga := h.sz + 1) (v := v) ⟨ok.m, ok.b, ok.g, fun V' s' g' e => ?_⟩ B73 Y73 Z73 (J0.keep G73) CI73 hg rfl ⟨?_, ?_, ?_, ?_, ?_, ?_, ?_, ?_⟩ ⟨fun _ => ?_, fun a b e => absurd e (by simp [AX.an, AX.mk])⟩)
  · obtain ⟨e1, e2⟩ := Prod.mk.inj (Option.some.inj e)
    obtain ⟨e3, e4⟩ := Prod.mk.inj e2
    subst e1 e3 e4
    exact ⟨A, ind, hg, K, d0⟩
  · rw [G73.fr _ _ B0.l (nof _ _ (by decide) (by decide))]; exact f3
  · have : h73.c.lo = h.c.lo := by unfold HC.lo; rw [G73.bs]
    rw [this]; exact zl
  · exact Nat.le_trans zs G73.sz
  · refine C.kc zs G73 (fun f a ha hh => ?_)
    rcases hh with hh | ⟨_, k, hk, e⟩
    · exact .inl (by unfold WTr at hh; omega)
    · have := (S.z k (Nat.zero_le _) hk).2.2.2
      omega
  · rw [G73.fr _ _ B0.l (nof _ _ (by decide) (by decide))]; exact f4
  · intro x sm e
    refine (H x sm e).keep G73 (fun f h1 h2 => nof _ _ (by omega) (by omega)) (fun hh => ?_)
    rcases hh with hh | ⟨_, k, hk, e2⟩
    · unfold WTr at hh; omega
    · have := (S.z k (Nat.zero_le _) hk).2.2.2
      have := hw x sm e
      omega
  · have szle : h.sz ≤ h55.sz := by omega
    have zz' : zz ≤ h.sz := zs
    refine ⟨K73, fun k a hk ha => ?_, ?_, dv, fun j k hj hk => ⟨(hij j k hj hk).1, (hij j k hj hk).2.1, (hij j k hj hk).2.2.1⟩, ?_, ?_, fun k hk => ⟨(nl51 k hk).1, ?_⟩, S55.m1, fun k hk => ?_, ?_⟩
    · rw [F73.ai _ (TT.nd k hk).vl (fun hh => by have := hh.1; omega), c71]; exact V70 k a hk ha
    · rw [eI, F73.ai _ K71.I.Tr.l1 (fun hh => by have := hh.1; omega), F73.ai _ K71.I.Tr.l2 (fun hh => by have := hh.1; omega), c71]; exact N70
    · rw [F73.fr _ _ TT.xl (fun hh => by have := hh.1; omega), F71.fr _ _ K67.I.K.R.xl (fun hh => by have := hh.1; omega)]; exact x67
    · have t1 : h.sz < h71.c.sz := TT.tl
      have t2 : h.sz < h67.c.sz := K67.I.K.R.tl
      have t3 : h.sz < h62.c.sz := R62.K.R.tl
      have t4 : h.sz < h59.c.sz := T59.tl
      have t5 : h.sz < h55.c.sz := S55.tl
      have t6 : h.sz < h51.c.sz := by show h.sz < h51.sz; omega
      show h73.c.fr 1600 h.sz = some (D.r 0)
      rw [F73.fr _ _ t1 (fun hh => by have := hh.1; omega), F71.fr _ _ t2 (fun hh => by have := hh.1; omega), F67.fr _ _ t3 (fun hh => by have := hh.1; omega), F62.fr _ _ t4 (fun hh => by have := hh.2; omega), F59.fr _ _ t5 id, F55.fr _ _ t6 (fun hh => by unfold WLi at hh; omega), e51]
      exact sfr_same _ _ _ _
    · have l2 : D.cd k < h.sz := (Nl k hk).ls.dl
      show D.cd k ≠ rd
      omega
    · have := S.z k (Nat.zero_le _) hk
      exact ⟨Nat.le_trans zw this.1, Nat.le_trans zw this.2.1, Nat.le_trans zw this.2.2.1, Nat.le_trans zw this.2.2.2⟩
    · show zz ≤ h.sz ∧ zz ≤ h.sz + 2 ∧ zz ≤ rd ∧ zz ≤ h.sz + 1 ∧ zz ≤ h55.sz ∧ zz ≤ tu ∧ zz ≤ un ∧ zz ≤ B.kn ∧ zz ≤ B.od ∧ zz ≤ B.lw ∧ zz ≤ B.pi ∧ zz ≤ B.ip ∧ zz ≤ B.ik
      omega
  · intro x sm e k hk e2
    have := (S.z k (Nat.zero_le _) hk).2.2.2
    have l := hw x sm e
    have e3 : D.va k = sm := e2
    omega
  · show h73.c.fi 110 o = -1
    rw [e73]; exact sfi_same _ _ _ _
theorem WN.okq {c : HC} {f a : Nat} (hh : WN lo q f a) (el : c.lo = lo) : okQ c f a ∧ c.lo ≤ a ∧ f ≠ 100 ∧ f ≠ 101 ∧ f ≠ 110 ∧ f ≠ 111 := by
  have h1 := hh.1
  have h2 := hh.2
  refine ⟨?_, by rw [el]; exact h1, by omega, by omega, by omega, by omega⟩
  unfold okQ
  omega
theorem CgR.grc {c : HC} (C : CgR c L A g ind) : GrC c L A g := ⟨C.N, C.X.S, C.D, C.W⟩
theorem q_tree (R : CRep h.c o jn tpa X) (hc : inR x (X.m + 1) → X.gr ≠ none → 1000 + 64 * X.m ≤ h.rc) (hs : inR x (X.m + 1) → X.gr ≠ none → 9000 + 1024 * X.m ≤ h.rs) (hQ : ∀ h', CRep h'.c o jn tpa (xTree X x) → Q (qTree X x) h') : wp_X0_tree o x h Q := by
  unfold wp_X0_tree
  unfold xTree qTree at hQ
  have hm := R.ok.m
  refine ⟨R.B.nn, px_isSizeR (h := h.srm 0 0) R (pu ?_)⟩
  by_cases hr : inR x (X.m + 1)
  rotate_left
  · rw [iP_neg hr]
    rw [cif_neg hr, cif_neg hr] at hQ
    refine ⟨fun v U => v = 1 ∧ U = h, brT rfl ⟨rfl, rfl⟩, ?_⟩
    rintro v U ⟨rfl, rfl⟩
    exact ⟨R.B.nn, qc0 R (fun h' R' _ _ => brT (by decide) (hQ h' R'))⟩
  rw [iP_pos hr]
  rw [cif_pos hr, cif_pos hr] at hQ
  refine ⟨fun v U => v = (if h.fr 103 o = none then 2 else 0) ∧ U = h, brF (by decide) ⟨R.B.nn, fun m hm => ⟨hm, rfl⟩⟩, ?_⟩
  rintro v U ⟨rfl, rfl⟩
  refine ⟨R.B.nn, qc0 R (fun h' R' c' s' => ?_)⟩
  replace hc := hc hr
  replace hs := hs hr
  obtain ⟨n, hn, e⟩ := hr
  subst e
  rw [I_ni (by omega)] at hQ
  cases hg : X.gr with
  | none =>
    have e0 : U.fr 103 o = none := (R.g0 hg).1
    rw [hg] at hQ
    rw [if_pos e0] at R' ⊢
    exact brT (by decide) (hQ h' R')
  | some q =>
  obtain ⟨A, ind⟩ := q
  replace hc := hc (by rw [hg]; simp)
  replace hs := hs (by rw [hg]; simp)
  obtain ⟨g0, L0, a0, _⟩ := R.cg hg
  have e0 : ¬ U.fr 103 o = none := by rw [show U.fr 103 o = some g0 from a0]; simp
  rw [if_neg e0] at R' ⊢
  rw [hg] at hQ
  dsimp only at hQ
  refine brF (by decide) ⟨R'.B.nn, 6, 82, ⟨by omega, by omega⟩, ?_⟩
  refine px_reader (h := h'.srm 6 82) R' (show n ≤ X.m by omega) rfl rfl ?_
  intro h2 F2 K2 R2 f3 f4 f11 z2 h3 e3
  have c3 : h3.c = h2.c := by rw [e3]; rfl
  have R3 : CRep h3.c o jn tpa (X.ws 0).rd := by rw [c3]; exact R2
  have K3 : RdK h3.c h'.c.lo h'.sz o jn tpa X.tp n (tok X.tp n 0) := by rw [c3]; exact K2
  have rc3 : h3.rc = U.rc - 6 := by rw [e3]; show h'.rc - 6 = _; omega
  have rs3 : h3.rs = U.rs - 82 := by rw [e3]; show h'.rs - 82 = _; omega
  have hz : (h'.srm 6 82).sz = h'.sz := rfl
  rw [hz, adr_some]
  refine ⟨nn_of rfl K3.R.k, ?_⟩
  obtain ⟨g, L, zz, hsh, a1, a2, a3, a4, a5, a6⟩ := R3.g1 A ind hg
  have C3 := a3.up a2.2
  have ND : NdC h3.c h'.c.lo h'.sz o jn tpa X.tp n L A g 0 (tok X.tp n 0) := ⟨K3, C3.grc, a1, by rw [e3]; exact f11⟩
  refine g_whole (need := none) (oth := 0) (dp := 0) ND rfl (by decide) (by decide) (fun s e => absurd e (by simp)) (by omega) (by omega) ?_ ?_
  · intro P eP h4 D F4 RR4 S4 rc4 rs4
    rw [eP] at hQ
    dsimp only at hQ
    obtain ⟨K, h40, _, hd0⟩ := pTr_ok C3.W (by omega) eP
    have R4 : CRep h4.c o jn tpa (X.ws 0).rd := R3.go F4 (fun f a hh => hh.okq K3.L) (R3.Y.kp R3.B F4 (fun f h1 h2 hh => by have := hh.2; omega) (fun hh => by have := hh.2; omega)) R3.ok rfl rfl rfl
    refine px_layTree (g := g) (X := (X.ws 0).rd) (w := h3.sz) (zz := zz) (hs := hsh) R4.ok R4.B R4.Y R4.Z R4.J R4.CI hg ?_ ?_ ?_ ?_ ?_ ?_ a2.2 ?_ K hd0 S4 (by omega) (by omega) ?_
    · rw [F4.fr _ _ R3.B.l (fun hh => by have := hh.2; omega)]; exact a1
    · have : h4.c.lo = h3.c.lo := by unfold HC.lo; rw [F4.bs]
      rw [this]; exact a2.1
    · exact Nat.le_trans a2.2 F4.sz
    · exact a3.kc a2.2 F4 (fun f a _ hh => .inl (by have := hh.2; omega))
    · rw [F4.fr _ _ R3.B.l (fun hh => by have := hh.2; omega)]; exact a4.1
    · exact fun x sm e => (a4.2 x sm e).keep F4 (fun f h1 h2 hh => by have := hh.2; omega) (fun hh => by have := hh.2; omega)
    · exact fun x sm e => (a4.2 x sm e).ml
    · intro h5 R5
      refine hQ h5 ?_
      have eX : AX.mk (X.ws 0).rd.m (X.ws 0).rd.tp (X.ws 0).rd.st (X.ws 0).rd.fk (X.ws 0).rd.fp (X.ws 0).rd.gr (some (P.V, P.sz, fun _ => 0)) none = AX.mk 0 X.tp 0 0 (-1) (some (A, ind)) (some (P.V, P.sz, fun _ => 0)) none := by rw [← hg]; rfl
      rw [← eX]
      exact R5
  · intro e eE w h4 F4 T4
    rw [eE] at hQ
    dsimp only at hQ
    have R4 : CRep h4.c o jn tpa (X.ws 0).rd := R3.go F4 (fun f a hh => hh.okq K3.L) (R3.Y.kp R3.B F4 (fun f h1 h2 hh => by have := hh.2; omega) (fun hh => by have := hh.2; omega)) R3.ok rfl rfl rfl
    refine ⟨R4.B.nn, px_wrong R4 T4 (fun h5 R5 => hQ h5 ?_)⟩
    rw [← hg]
    exact R5
end
