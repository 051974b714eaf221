/-! plain: ul -/
set_option maxRecDepth 100000
section
variable {h h0 : AH} {o jn tpa : Nat} {X : AX} {L : GA} {A : PG} {g : Nat} {ind : Nat → Int32} {V V' : Tv} {sz sz' : Nat → Nat} {gv : Nat → Int32} {D D1 : TA} {k : Nat} {P : PT}
variable {zz i0 ga w : Nat} {hsh : Option (Nat × Nat)} {B : IA} {tu un : Nat} {s : TjS} {v : Vl}

/-- the row of those that stay. -/
def stay (D : TA) (k s i : Nat) : Nat := if i < k then D.r i else D.r (i + s)
theorem WR.wq {f a : Nat} (hh : WR D D1 V f a) : WQ D D1 V f a := .inl hh
/-- the nodes that stay tell their numbers, all are numbered anew. -/
theorem px_gT3 (E : GrH h0.c o jn tpa X L A g ind V V' sz sz' gv D D1 k P zz i0 ga w hsh B tu un s v) (F : Fr (WR D D1 V) h0.c h.c) (M : GrM h.c L A V V' sz D D1 k P)
    {st sd sm9 : Nat} (LS : Ls h.c st sd sm9 (V.n - sz k) (fun i => if i < k then D.r i else D.r (i + sz k))) (gst : h0.sz ≤ st) (gsd : h0.sz ≤ sd)
    {oi a0 : Nat} (koi : h.kd oi = (40, 40)) (loi : oi < h.sz) (goi : h0.sz ≤ oi)
    (ka0 : h.kd a0 = (42, 320)) (la0 : a0 < h.sz) (ga0 : h0.sz ≤ a0) (va0 : ∀ q, q < 320 → h.ai a0 q = iP (ktQ A V s k (8 * (k + sz k)) q))
    (hc : 94 ≤ h.rc) (hs : 6493 ≤ h.rs) {Q : AH → Prop} (hQ : ∀ h', CRep h'.c o jn tpa (X.cg A V' sz' gv (gDue (istO A.g V gv) k (sz k) P.V.n (A.g.ins (V.sm A.g k))) (gNew k P.V.n) (gOld (istO A.g V gv).val k (sz k) P.V.n)) → Q h') : gT3 o (some (D.r k)) (some (D1.r 0)) oi st (I k) (some i0) (some a0) h Q := by
  have G := E.G
  obtain ⟨m1, m2, m3, m4⟩ := G.m1
  have h40 := G.KN.n40
  have v40 := G.K.n40
  have TT := E.T.R.I.K.R
  have N1 := E.NS.nd 0 (Nat.le_refl _) m1
  have wl : w ≤ h0.sz := E.wl
  have h0h : h0.sz ≤ h.sz := F.sz
  have ol : o < h0.sz := E.B0.l
  obtain ⟨be, ebe⟩ : ∃ be, be = h.sz := ⟨_, rfl⟩
  unfold gT3
  rw [show ni 40 = 40 from rfl]
  refine ⟨⟨by decide, by decide, by omega, by rw [show ni 40 = 40 from rfl]; omega⟩, ?_⟩
  rw [← ebe]
  intro h68 e68
  have F68 : Fr W0 h.c h68.c := by rw [e68]; exact (Fr.refl _).new _ _ _
  have z68 : h68.sz = be + 1 := by rw [e68, ebe]; rfl
  have k68 : h68.kd be = (40, 40) := by rw [e68, new_kd, if_pos ebe]
  have r68 : h68.rc = h.rc - 1 ∧ h68.rs = h.rs - 40 := by rw [e68]; exact ⟨rfl, rfl⟩
  have lst : st < h.sz := LS.al
  have lsd : sd < h.sz := LS.dl
  refine xlp_cnt (V.n - sz k) (fun i q T => q = I i ∧ Fr W0 h.c T.c ∧ T.sz = be + 1 ∧ T.rc = h.rc - 1 ∧ T.rs = h.rs - 40 ∧ T.kd be = (40, 40) ∧ ∀ j, j < i → T.ai be j = I (if j < k then j else j + sz k)) ⟨rfl, F68, z68, r68.1, r68.2, k68, fun j hj => absurd hj (Nat.not_lt_zero _)⟩ ?_
  rintro i q T KK hi ⟨eq, FT, tz, tc, ts, tk, ta⟩ hK
  have LT : Ls T.c st sd sm9 (V.n - sz k) (fun i => if i < k then D.r i else D.r (i + sz k)) := LS.keep FT id id id
  have GT : Fr (WR D D1 V) h0.c T.c := F.trans' FT (fun _ _ _ hh => hh.elim)
  rw [eq]
  refine ⟨nn_of rfl LT.k, pc_size (h := T.srm 0 0) LT (pu ?_)⟩
  by_cases ei : i = V.n - sz k
  rotate_left
  · have hi' : i < V.n - sz k := by omega
    refine brF (fun hh => by have := (I_le (by omega) (by omega)).1 hh; omega) ⟨nn_of rfl LT.k, pc_get (h := T.srm 0 0) LT hi' (pu ?_)⟩
    obtain ⟨j, ej⟩ : ∃ j, j = (if i < k then i else i + sz k) := ⟨_, rfl⟩
    have hj : j < V.n := by rw [ej]; split <;> omega
    have ex : (if i < k then D.r i else D.r (i + sz k)) = D.r j := by rw [ej]; split <;> rfl
    rw [ex]
    have Nj := TT.nd j hj
    have kj : (T.kd (D.r j)).1 = 15 := by rw [show T.kd (D.r j) = h0.kd (D.r j) from GT.kd _ Nj.l]; exact Nj.k
    have e52 : T.fi 1502 (D.r j) = I j := by
      have : T.fi 1502 (D.r j) = h0.fi 1502 (D.r j) := GT.fi _ _ Nj.l (fun hh => by rcases hh with hh | hh | hh <;> omega)
      rw [this]; exact Nj.ix
    rw [adr_some, e52, I_ni (by omega)]
    refine ⟨.inr (nn_of rfl kj), nn_of rfl kj, ix_of rfl tk (by omega) (by decide), ?_⟩
    intro h61 e61
    refine hK _ _ hi' ⟨I_add i 1, by rw [e61]; exact FT.sai _ _ (fun hh => by have h9 : be < h.sz := hh; omega), by rw [e61]; exact tz, by rw [e61]; exact tc, by rw [e61]; exact ts, by rw [e61]; exact tk, fun j' hj' => ?_⟩
    rw [e61, sai_ai, if_pos rfl]
    by_cases e : j' = i
    · rw [e, updN_same, ej]
    · rw [updN_ne _ _ e]; exact ta j' (by omega)
  subst ei
  clear hK
  refine brT ((I_le (by omega) (by omega)).2 (Nat.le_refl _)) ?_
  have nrd : ∀ f a, (f ≠ 0 ∧ f ≠ 1504 ∧ f ≠ 1505 ∧ f ≠ 1600) → ¬ WR D D1 V f a := fun f a hf hh => by rcases hh with hh | hh | hh <;> omega
  have x105 : T.fr 105 o = some D.t := (GT.fr _ _ ol (nrd _ _ (by decide))).trans TT.xt
  have ko : (T.kd o).1 = 1 := by rw [show T.kd o = h0.kd o from GT.kd _ ol]; exact E.B0.k
  have kt : (T.kd D.t).1 = 16 := by rw [show T.kd D.t = h0.kd D.t from GT.kd _ TT.tl]; exact TT.tk
  have ltt : D.t < T.sz := Nat.lt_of_lt_of_le TT.tl GT.sz
  have x1602 : T.fr 1602 D.t = some D.rl := (GT.fr _ _ TT.tl (nrd _ _ (by decide))).trans TT.rw_
  have lrow : Ls T.c D.rl D.rd D.rm V.n D.r := TT.rl.keep GT (nrd _ _ (by decide)) (nrd _ _ (by decide)) (fun hh => by
    rcases hh with ⟨_, j, hj, e⟩ | hh | hh
    · exact (E.T.rn j hj).2 e.symm
    · omega
    · omega)
  rw [x105, adr_some]
  obtain ⟨D', eD⟩ : ∃ D', D' = D.gr D1 k (sz k) P.V.n D.rd D.rm := ⟨_, rfl⟩
  have er : ∀ e, D'.r e = gsel k (sz k) P.V.n D.r D1.r e := fun e => by rw [eD]; rfl
  have ecl : ∀ e, D'.cl e = gsel k (sz k) P.V.n D.cl D1.cl e := fun e => by rw [eD]; rfl
  have ecd : ∀ e, D'.cd e = gsel k (sz k) P.V.n D.cd D1.cd e := fun e => by rw [eD]; rfl
  refine ⟨nn_of rfl ko, nn_of rfl kt, 2 * V'.n, 65 * V'.n, ⟨by omega, by omega⟩, ?_⟩
  refine px_numbers (L := L) (h := T.srm (2 * V'.n) (65 * V'.n)) (D := D') G.KN (fun a b ha hb e => ?_) E.d0 kt ltt x1602 lrow E.T.rm (fun e he => ?_) (fun e he => ?_) ?_ (Nat.le_refl _) (Nat.le_refl _) ?_
  · rw [er, er] at e
    refine G.inj (fun i j hi hj => (E.T.ij i j hi hj).1) (fun p q hp hq e => ?_) (fun i q hi hq e => ?_) a b ha hb e
    · rcases Nat.lt_trichotomy p q with l | l | l
      · exact absurd e (E.NS.ij p q (Nat.zero_le _) l hq).1
      · exact l
      · exact absurd e.symm (E.NS.ij q p (Nat.zero_le _) l hp).1
    · have := (E.od i hi).1
      have := (E.NS.z q (Nat.zero_le _) hq).1
      omega
  · rw [eD]
    exact (M.nd e he D.rd D.rm).keep FT (fun _ _ => id) id id id
  · rw [ecl, ecd]
    have ot := E.ot
    exact ⟨G.all (C := fun a => a ≠ D.rl) (fun i hi => (E.T.rn i hi).1) (fun q hq => by have := (E.NS.z q (Nat.zero_le _) hq).2.1; omega) e he, G.all (C := fun a => a ≠ D.rd) (fun i hi => (E.T.rn i hi).2) (fun q hq => by have := (E.NS.z q (Nat.zero_le _) hq).2.2.1; omega) e he⟩
  · rw [eD]
    have l9 : D.t < h.c.sz := Nat.lt_of_lt_of_le TT.tl F.sz
    exact (FT.fr _ _ l9 id).trans (M.rt D.rd D.rm)
  intro h79 rd rm F79 S79 hrd c79 r79 h80 e80
  have F80 : Fr (WLi D.rl D.rd) T.c h80.c := by rw [e80]; exact F79
  have c80 : h80.rc = T.rc - 2 * V'.n := by rw [e80]; rfl
  have s80 : h80.rs = T.rs - 65 * V'.n := by rw [e80]; rfl
  have ot := E.ot
  have nli : ∀ a, h0.sz ≤ a → ¬ WLi D.rl D.rd 0 a := fun a ha hh => by unfold WLi at hh; omega
  have tzl : h.sz ≤ T.sz := FT.sz
  have S80 : LiR h80.c L (D.gr D1 k (sz k) P.V.n rd rm) A.g V' D.t D.rl rd rm V'.n := by
    rw [e80]
    rw [eD] at S79
    exact S79
  refine px_gT4 (h0 := h0) (rd := rd) (rm := rm) (sd := sd) (sm9 := sm9) E (GT.mono (fun _ _ _ hh => hh.wq) |>.trans (F80.mono (fun f a _ hh => ?_))) S80 ?_ ?_ (LT.keep F80 (fun hh => by unfold WLi at hh; omega) (fun hh => by unfold WLi at hh; omega) (nli _ gsd)) ?_ ?_ goi ?_ ?_ (by omega) (fun i hi => ?_) ?_ ?_ (fun q hq => ?_) (fun j hj => ?_) (by omega) (by omega) hQ
  · unfold WLi at hh
    unfold WQ
    omega
  · -- the root
    have l9 : D.t < T.c.sz := ltt
    have l8 : D.t < h.c.sz := Nat.lt_of_lt_of_le TT.tl F.sz
    rw [F80.fr _ _ l9 (fun hh => by unfold WLi at hh; omega), FT.fr _ _ l8 id]
    exact M.rt rd rm
  · rcases hrd with e | e
    · exact .inl e
    · have e' : T.sz ≤ rd := e
      exact .inr (by omega)
  · rw [show h80.kd oi = T.kd oi from F80.kd oi (by show oi < T.sz; omega), show T.kd oi = h.kd oi from FT.kd oi loi]; exact koi
  · have : T.sz ≤ h80.sz := F80.sz
    omega
  · rw [show h80.kd be = T.kd be from F80.kd be (by show be < T.sz; omega)]; exact tk
  · have : T.sz ≤ h80.sz := F80.sz
    omega
  · rw [show h80.ai be = T.ai be from F80.ai be (by show be < T.sz; omega) (nli _ (by omega))]; exact ta i hi
  · rw [show h80.kd a0 = T.kd a0 from F80.kd a0 (by show a0 < T.sz; omega), show T.kd a0 = h.kd a0 from FT.kd a0 la0]; exact ka0
  · have : T.sz ≤ h80.sz := F80.sz
    omega
  · rw [show h80.ai a0 = T.ai a0 from F80.ai a0 (by show a0 < T.sz; omega) (nli _ ga0), show T.ai a0 = h.ai a0 from FT.ai a0 la0 id]; exact va0 q hq
  · have l9 : D1.va 0 < h0.c.sz := N1.vl
    have z9 := (E.NS.z 0 (Nat.le_refl _) m1).2.2.2
    have l8 : D1.va 0 < T.c.sz := Nat.lt_of_lt_of_le l9 GT.sz
    rw [show h80.ai (D1.va 0) = T.ai (D1.va 0) from F80.ai _ l8 (fun hh => by unfold WLi at hh; omega), show T.ai (D1.va 0) = h0.ai (D1.va 0) from GT.ai _ l9 (fun hh => by
      rcases hh with ⟨_, j, hj, e⟩ | hh | hh
      · have := (E.od j hj).2.2.1
        omega
      · omega
      · omega)]
    exact N1.vz j hj
/-- the one takes the other's place. -/
theorem px_gT2 (E : GrH h0.c o jn tpa X L A g ind V V' sz sz' gv D D1 k P zz i0 ga w hsh B tu un s v) (F : Fr W0 h0.c h.c)
    {st sd sm9 : Nat} (LS : Ls h.c st sd sm9 (V.n - sz k) (fun i => if i < k then D.r i else D.r (i + sz k))) (gst : h0.sz ≤ st) (gsd : h0.sz ≤ sd)
    {oi a0 : Nat} (koi : h.kd oi = (40, 40)) (loi : oi < h.sz) (goi : h0.sz ≤ oi)
    (ka0 : h.kd a0 = (42, 320)) (la0 : a0 < h.sz) (ga0 : h0.sz ≤ a0) (va0 : ∀ q, q < 320 → h.ai a0 q = iP (ktQ A V s k (8 * (k + sz k)) q))
    (hc : 94 ≤ h.rc) (hs : 6493 ≤ h.rs) {Q : AH → Prop} (hQ : ∀ h', CRep h'.c o jn tpa (X.cg A V' sz' gv (gDue (istO A.g V gv) k (sz k) P.V.n (A.g.ins (V.sm A.g k))) (gNew k P.V.n) (gOld (istO A.g V gv).val k (sz k) P.V.n)) → Q h') : gT2 o (some (D.r k)) (some (D1.r 0)) oi st (some i0) (some a0) h Q := by
  have G := E.G
  obtain ⟨m1, m2, m3, m4⟩ := G.m1
  have TT0 := E.T.R.I.K.R
  have TT := TT0.w0 F
  have Nk := TT.nd k G.hk
  have NS := E.NS.w0 F
  have N1 := NS.nd 0 (Nat.le_refl _) m1
  have wl : w ≤ h0.sz := E.wl
  have h0h : h0.sz ≤ h.sz := F.sz
  have odk := E.od k G.hk
  have z1 := E.NS.z 0 (Nat.le_refl _) m1
  have x105 : h.fr 105 o = some D.t := TT.xt
  have e54 : h.fr 1504 (D.r k) = (V.pa k).map D.r := Nk.pa
  have e52 : h.fi 1502 (D.r k) = I k := Nk.ix
  have kc : (h.kd (D1.r 0)).1 = 15 := N1.k
  unfold gT2
  rw [adr_some (D.r k), adr_some (D1.r 0), e54, e52]
  refine ⟨nn_of rfl Nk.k, fun _ U => Fr (WR D D1 V) h.c U.c ∧ GrM U.c L A V V' sz D D1 k P ∧ U.sz = h.sz ∧ U.rc = h.rc ∧ U.rs = h.rs, ?_, ?_⟩
  · -- lists as they are
    have ls0 : ∀ q, q < V.n → (∀ c, 1 ≤ c → c ≤ A.g.kn (V.pd q) → V.kd q c ≠ k) → ∀ c' : HC, Ls c' (D.cl q) (D.cd q) (D.cm q) (A.g.kn (V.pd q)) (fun j => D.r (V.kd q (j + 1))) → Ls c' (D.cl q) (D.cd q) (D.cm q) (A.g.kn (V.pd q)) (fun j => if V.kd q (j + 1) = k then D1.r 0 else D.r (V.kd q (j + 1))) := fun q hq hne c' Lq => Lq.congr (fun j hj => if_neg (hne (j + 1) (by omega) (by omega)))
    cases hp : V.pa k with
    | none =>
      have k0 : k = 0 := (G.K.WF.root k G.hk).1 hp
      refine brT rfl ?_
      rw [x105, adr_some]
      refine ⟨nn_of rfl TT.xk, nn_of rfl TT.tk, ?_⟩
      intro h65 e65
      have F65 : Fr (fun f a => f = 1600 ∧ a = D.t) h.c h65.c := by rw [e65]; exact (Fr.refl _).sfr _ (fun _ => ⟨rfl, rfl⟩)
      have W65 : Fr (WR D D1 V) h.c h65.c := F65.mono (fun f a _ hh => .inr (.inr hh))
      refine ⟨W65, E.put (F.mono (fun _ _ _ hh => hh.elim) |>.trans W65) ?_ (fun hh => absurd hp hh) ?_ (fun q hq => ?_), by rw [e65]; rfl, by rw [e65]; rfl, by rw [e65]; rfl⟩
      · rw [hp, F65.fr _ _ N1.l (fun hh => by omega)]; exact NS.rt m1
      · rw [if_pos k0, e65]; exact sfr_same _ _ _ _
      · refine ls0 q hq (fun c h1 h2 e => ?_) _ ((TT.nd q hq).ls.keep F65 (fun hh => by omega) (fun hh => by omega) (fun hh => by omega))
        have := (G.K.kid (i := q) (j := c) hq h1 h2).1
        omega
    | some p =>
      refine brF (by simp) ?_
      have par := G.K.WF.par k p G.hk hp
      obtain ⟨p1, p2, p3, p4⟩ := par
      have Np := TT.nd p p1
      have kn3 := E.cg.W.kn _ (G.K.WF.pd p p1)
      have hpl : V.pl k < 1000 := by omega
      have e55 : h.fi 1505 (D.r k) = I (V.pl k) := Nk.pl (by rw [hp]; simp)
      have e56 : h.fr 1506 (D.r p) = some (D.cl p) := Np.ch
      show nn h (some (D.r p)) 15 ∧ nn h (h.fr 1506 (adr (some (D.r p)))) 23 ∧ wp_J12_set (adr (h.fr 1506 (adr (some (D.r p))))) _ _ _ _
      rw [adr_some, e56, adr_some, e55, show I (V.pl k) - 1 = I (V.pl k - 1) from I_sub (a := V.pl k) (b := 1) (by omega)]
      refine ⟨nn_of rfl Np.k, nn_of rfl Np.ls.k, pc_set (h := h.srm 0 0) Np.ls (show V.pl k - 1 < A.g.kn (V.pd p) by omega) (by show stk 44 (h.kd (D1.r 0)).1 = true; rw [kc]; rfl) ?_⟩
      intro h57 F57 L57 z57 _ _ h58 e58
      have F58 : Fr (fun f b => f = 0 ∧ b = D.cd p) h.c h58.c := by rw [e58]; exact F57
      have L58 : Ls h58.c (D.cl p) (D.cd p) (D.cm p) (A.g.kn (V.pd p)) (updN (fun j => D.r (V.kd p (j + 1))) (V.pl k - 1) (D1.r 0)) := by rw [e58]; exact L57
      have l4 : h58.fr 1504 (D.r k) = some (D.r p) := by
        have : h58.fr 1504 (D.r k) = h.fr 1504 (D.r k) := F58.fr _ _ Nk.l (fun hh => by omega)
        rw [this, e54, hp]; rfl
      have l5 : h58.fi 1505 (D.r k) = I (V.pl k) := (F58.fi _ _ Nk.l (fun hh => by omega)).trans e55
      have nk1 : D.r k ≠ D1.r 0 := by omega
      refine ⟨nn_of rfl (by rw [show h58.kd (D.r k) = h.kd (D.r k) from F58.kd _ Nk.l]; exact Nk.k), nn_of rfl (by rw [show h58.kd (D1.r 0) = h.kd (D1.r 0) from F58.kd _ N1.l]; exact kc), ?_⟩
      rw [l4]
      intro h61 e61
      have l6 : h61.fi 1505 (D.r k) = I (V.pl k) := by rw [e61]; exact l5
      rw [l6]
      intro h62 e62
      have F62 : Fr (fun f a => (f = 1504 ∨ f = 1505) ∧ a = D1.r 0) h58.c h62.c := by
        rw [e62, e61]
        exact ((Fr.refl _).sfr _ (fun _ => ⟨.inl rfl, rfl⟩)).sfi _ (fun _ => ⟨.inr rfl, rfl⟩)
      have W62 : Fr (WR D D1 V) h.c h62.c := (F58.mono (fun f a _ hh => .inl ⟨hh.1, p, p1, hh.2⟩)).trans (F62.mono (fun f a _ hh => .inr (.inl hh)))
      have k0 : k ≠ 0 := fun e => by
        have := (G.K.WF.root k G.hk).2 e
        rw [hp] at this
        exact absurd this (by simp)
      refine ⟨W62, E.put (F.mono (fun _ _ _ hh => hh.elim) |>.trans W62) ?_ (fun _ => ?_) ?_ (fun q hq => ?_), by rw [e62, e61, e58]; exact z57, by rw [e62, e61, e58]; rfl, by rw [e62, e61, e58]; rfl⟩
      · rw [hp, e62]
        show h61.fr 1504 (D1.r 0) = _
        rw [e61]; exact sfr_same _ _ _ _
      · rw [e62]; exact sfi_same _ _ _ _
      · have l9 : D.t < h.c.sz := TT.tl
        have l8 : D.t < h58.c.sz := Nat.lt_of_lt_of_le l9 F58.sz
        rw [if_neg k0, F62.fr _ _ l8 (fun hh => by omega), F58.fr _ _ l9 (fun hh => by omega), F.fr _ _ TT0.tl id]
        exact E.T.rt
      · by_cases eqp : q = p
        · rw [eqp]
          refine (L58.keep F62 (fun hh => by omega) (fun hh => by omega) (fun hh => by omega)).congr (fun j hj => ?_)
          by_cases ej : j = V.pl k - 1
          · rw [ej, updN_same, show V.pl k - 1 + 1 = V.pl k by omega, p4, if_pos rfl]
          · rw [updN_ne _ _ ej]
            refine if_neg (fun e => ?_)
            have := (G.K.kid (i := p) (j := j + 1) p1 (by omega) (by omega)).2.2.2.2.1
            rw [e] at this
            omega
        · have ne : D.cd q ≠ D.cd p := fun e => eqp ((E.T.ij q p hq p1).2.2 e)
          refine ls0 q hq (fun c h1 h2 e => ?_) _ (((TT.nd q hq).ls.keep F58 (fun hh => by omega) (fun hh => by omega) (fun hh => ne hh.2)).keep F62 (fun hh => by omega) (fun hh => by omega) (fun hh => by omega))
          have := (G.K.kid (i := q) (j := c) hq h1 h2).2.2.2.1
          rw [e, hp] at this
          exact eqp (Option.some.inj this).symm
  · rintro _ U ⟨FU, MU, zU, cU, sU⟩
    have nw : ∀ a, h0.sz ≤ a → ¬ WR D D1 V 0 a := fun a ha hh => by
      rcases hh with ⟨_, j, hj, e⟩ | hh | hh
      · have := (E.od j hj).2.2.1; omega
      · omega
      · omega
    have nf : ∀ f a, (f ≠ 0 ∧ f ≠ 1504 ∧ f ≠ 1505 ∧ f ≠ 1600) → ¬ WR D D1 V f a := fun f a hf hh => by rcases hh with hh | hh | hh <;> omega
    exact px_gT3 (h0 := h0) E (F.mono (fun _ _ _ hh => hh.elim) |>.trans FU) MU (LS.keep FU (nf _ _ (by decide)) (nf _ _ (by decide)) (nw _ gsd)) gst gsd ((FU.kd oi loi).trans koi) (by omega) goi ((FU.kd a0 la0).trans ka0) (by omega) ga0 (fun q hq => by rw [show U.ai a0 = h.ai a0 from FU.ai a0 la0 (nw _ ga0)]; exact va0 q hq) (by omega) (by omega) hQ
end
