/-! plain: uk -/
set_option maxRecDepth 100000
section
variable {h h0 : AH} {o jn tpa : Nat} {X : AX} {L : GA} {A : PG} {g : Nat} {ind : Nat → Int32} {V V' : Tv} {sz sz' : Nat → Nat} {gv : Nat → Int32} {D D1 : TA} {k : Nat} {P : PT}
variable {zz i0 ga w : Nat} {hsh : Option (Nat × Nat)} {B : IA} {tu un : Nat} {s : TjS} {v : Vl}

theorem GrK.inj (G : GrK A V sz k P V' sz') {f f1 : Nat → Nat} (h1 : ∀ i j, i < V.n → j < V.n → f i = f j → i = j) (h2 : ∀ p q, p < P.V.n → q < P.V.n → f1 p = f1 q → p = q) (h3 : ∀ i q, i < V.n → q < P.V.n → f i ≠ f1 q) : ∀ a b, a < V'.n → b < V'.n → gsel k (sz k) P.V.n f f1 a = gsel k (sz k) P.V.n f f1 b → a = b := by
  obtain ⟨m1, m2, m3, m4⟩ := G.m1
  intro a b ha hb e
  rcases G.cases ha with ⟨i, i1, i2, i3, i4⟩ | ⟨p, p1, p2⟩ <;> rcases G.cases hb with ⟨j, j1, j2, j3, j4⟩ | ⟨q, q1, q2⟩
  · rw [← i4, ← j4, gsel_st _ _ m2 i2 i3, gsel_st _ _ m2 j2 j3] at e
    rw [← i4, ← j4, h1 i j i1 j1 e]
  · rw [← i4, q2, gsel_st _ _ m2 i2 i3, gsel_in _ _ q1] at e
    exact absurd e (h3 i q i1 q1)
  · rw [p2, ← j4, gsel_in _ _ p1, gsel_st _ _ m2 j2 j3] at e
    exact absurd e.symm (h3 j p j1 p1)
  · rw [p2, q2, gsel_in _ _ p1, gsel_in _ _ q1] at e
    rw [p2, q2, h2 p q p1 q1 e]
theorem GrK.all (G : GrK A V sz k P V' sz') {f f1 : Nat → Nat} {C : Nat → Prop} (h1 : ∀ i, i < V.n → C (f i)) (h2 : ∀ q, q < P.V.n → C (f1 q)) : ∀ e, e < V'.n → C (gsel k (sz k) P.V.n f f1 e) := by
  obtain ⟨m1, m2, m3, m4⟩ := G.m1
  intro e he
  rcases G.cases he with ⟨i, i1, i2, i3, i4⟩ | ⟨p, p1, p2⟩
  · rw [← i4, gsel_st _ _ m2 i2 i3]; exact h1 i i1
  · rw [p2, gsel_in _ _ p1]; exact h2 p p1
theorem LiR.keepA {W : Nat → Nat → Prop} {c c' : HC} {G : Gv} {T : Tv} {t rl rd rm m : Nat} (S : LiR c L D G T t rl rd rm m) (hm : m ≤ T.n) (F : Fr W c c') (hW : ∀ f a, W f a → f = 0 ∧ (c.kd a).1 = 40) : LiR c' L D G T t rl rd rm m := by
  have nf : ∀ f a, f ≠ 0 → ¬ W f a := fun f a hf hh => hf (hW f a hh).1
  have nz : ∀ {a m : Nat}, c.kd a = (44, m) → ¬ W 0 a := fun {a m} hk hh => by have := (hW 0 a hh).2; rw [hk] at this; omega
  exact ⟨by rw [F.kd _ S.tl]; exact S.tk, Nat.lt_of_lt_of_le S.tl F.sz, by rw [F.fr _ _ S.tl (nf _ _ (by decide))]; exact S.rw_, S.ls.keep F (nf _ _ (by decide)) (nf _ _ (by decide)) (nz S.ls.dk), S.m1, fun k hk => (S.nd k hk).keep F (fun f hf => nf _ _ (by omega)) (nf _ _ (by decide)) (nf _ _ (by decide)) (nz (S.nd k hk).ls.dk), fun k hk => by rw [F.fi _ _ (S.nd k (by omega)).l (nf _ _ (by decide)), F.fi _ _ (S.nd k (by omega)).l (nf _ _ (by decide))]; exact S.ix k hk, S.nl⟩
/-- what grafting writes of what there was, up to new instances. -/
def WQ (D D1 : TA) (V : Tv) : Nat → Nat → Prop := fun f a => WR D D1 V f a ∨ f = 1502 ∨ f = 1503 ∨ (a = D.rl ∧ (f = 2300 ∨ f = 2301 ∨ f = 2302)) ∨ (f = 0 ∧ (a = D.rd ∨ a = D1.va 0))
theorem GrH.noz (E : GrH h0.c o jn tpa X L A g ind V V' sz sz' gv D D1 k P zz i0 ga w hsh B tu un s v) {a t n : Nat} (hk : h0.c.kd a = (t, n)) (h1 : t ≠ 44) (h2 : (t, n) ≠ (40, 8)) : ¬ WQ D D1 V 0 a := by
  intro hh
  have TT := E.T.R.I.K.R
  rcases hh with (⟨_, j, hj, e⟩ | hh | hh) | hh | hh | hh | ⟨_, e | e⟩
  · have := (TT.nd j hj).ls.dk
    rw [← e, hk] at this
    exact h1 (Prod.mk.inj this).1
  · omega
  · omega
  · omega
  · omega
  · omega
  · have := TT.rl.dk
    rw [← e, hk] at this
    exact h1 (Prod.mk.inj this).1
  · have := (E.NS.nd 0 (Nat.le_refl _) E.G.KP.n1).vk
    rw [← e, hk] at this
    exact h2 this
theorem WQ.nof {f a : Nat} (h0 : f ≠ 0) (h1 : f < 1502 ∨ 1505 < f) (h2 : f ≠ 1600) (h3 : f < 2300 ∨ 2302 < f) : ¬ WQ D D1 V f a := by
  intro hh
  rcases hh with (hh | hh | hh) | hh | hh | hh | hh <;> omega
/-- values, the row of nodes, and all else stand; new instances, what is due. -/
theorem px_gT4 (E : GrH h0.c o jn tpa X L A g ind V V' sz sz' gv D D1 k P zz i0 ga w hsh B tu un s v) (F : Fr (WQ D D1 V) h0.c h.c) {rd rm : Nat} (S : LiR h.c L (D.gr D1 k (sz k) P.V.n rd rm) A.g V' D.t D.rl rd rm V'.n) (rt : h.c.fr 1600 D.t = some ((D.gr D1 k (sz k) P.V.n rd rm).r 0)) (hrd : rd = D.rd ∨ h0.sz ≤ rd)
    {st sd sm9 : Nat} (LS : Ls h.c st sd sm9 (V.n - sz k) (fun i => if i < k then D.r i else D.r (i + sz k)))
    {oi be a0 : Nat} (koi : h.kd oi = (40, 40)) (loi : oi < h.sz) (goi : h0.sz ≤ oi) (kbe : h.kd be = (40, 40)) (lbe : be < h.sz) (nbe : be ≠ oi) (vbe : ∀ i, i < V.n - sz k → h.ai be i = I (if i < k then i else i + sz k))
    (ka0 : h.kd a0 = (42, 320)) (la0 : a0 < h.sz) (va0 : ∀ q, q < 320 → h.ai a0 q = iP (ktQ A V s k (8 * (k + sz k)) q)) (v0 : ∀ j, j < 8 → h.ai (D1.va 0) j = 0)
    (hc : 13 ≤ h.rc) (hs : 3853 ≤ h.rs) {Q : AH → Prop} (hQ : ∀ h', CRep h'.c o jn tpa (X.cg A V' sz' gv (gDue (istO A.g V gv) k (sz k) P.V.n (A.g.ins (V.sm A.g k))) (gNew k P.V.n) (gOld (istO A.g V gv).val k (sz k) P.V.n)) → Q h') : gT4 o (some (D.r k)) (some (D1.r 0)) oi st be (I k) (some i0) (some a0) h Q := by
  have G := E.G
  obtain ⟨m1, m2, m3, m4⟩ := G.m1
  have h40 := G.KN.n40
  have v40 := G.K.n40
  have TT := E.T.R.I.K.R
  have NK := TT.nd k G.hk
  have N1 := E.NS.nd 0 (Nat.le_refl _) m1
  have odk := E.od k G.hk
  have z10 := E.NS.z 0 (Nat.le_refl _) m1
  have wl : w ≤ h0.sz := E.wl
  have h0h : h0.sz ≤ h.sz := F.sz
  obtain ⟨D', eD⟩ : ∃ D', D' = D.gr D1 k (sz k) P.V.n rd rm := ⟨_, rfl⟩
  rw [← eD] at S rt
  have er : ∀ e, D'.r e = gsel k (sz k) P.V.n D.r D1.r e := fun e => by rw [eD]; rfl
  have ecl : ∀ e, D'.cl e = gsel k (sz k) P.V.n D.cl D1.cl e := fun e => by rw [eD]; rfl
  have ecd : ∀ e, D'.cd e = gsel k (sz k) P.V.n D.cd D1.cd e := fun e => by rw [eD]; rfl
  have eva : ∀ e, D'.va e = gsel k (sz k) P.V.n D.va D1.va e := fun e => by rw [eD]; rfl
  have in0 : ∀ f f1 : Nat → Nat, gsel k (sz k) P.V.n f f1 k = f1 0 := fun f f1 => by
    have := gsel_in (k := k) (s := sz k) (m := P.V.n) f f1 (q := 0) m1
    rw [Nat.add_zero] at this
    exact this
  unfold gT4
  refine px_fill (h := h.srm 0 0) koi (by decide) ?_
  intro h85 F85 z85 _ _ a85 h86 e86
  have F86 : Fr (fun f b => f = 0 ∧ b = oi) h.c h86.c := by rw [e86]; exact F85
  have z86 : h86.sz = h.sz := by rw [e86]; exact z85
  have a86 : ∀ i, i < 40 → h86.ai oi i = -1 := by rw [e86]; exact a85
  have c86 : h86.rc = h.rc ∧ h86.rs = h.rs := by rw [e86]; exact ⟨rfl, rfl⟩
  refine xlp_cnt (V.n - sz k) (fun i q T => q = I i ∧ Fr (fun f b => f = 0 ∧ b = oi) h.c T.c ∧ T.sz = h.sz ∧ T.rc = h.rc ∧ T.rs = h.rs ∧ ∀ e, e < 40 → T.ai oi e = if e < k ∧ e < i then I e else if k + P.V.n ≤ e ∧ e < i + P.V.n then I (e + sz k - P.V.n) else -1) ⟨rfl, F86, z86, c86.1, c86.2, fun e he => by rw [a86 e he, if_neg (by omega), if_neg (by omega)]⟩ ?_
  rintro i q T KK hi ⟨eq, FT, tz, tc, ts, aT⟩ hK
  have hW40 : ∀ f a, (f = 0 ∧ a = oi) → f = 0 ∧ (h.c.kd a).1 = 40 := fun f a hh => ⟨hh.1, by rw [hh.2]; exact congrArg Prod.fst koi⟩
  have ST := S.keepA (Nat.le_refl _) FT hW40
  have LT : Ls T.c st sd sm9 (V.n - sz k) (fun i => if i < k then D.r i else D.r (i + sz k)) := LS.keep FT (fun hh => by omega) (fun hh => by omega) (fun hh => by
    have e1 := LS.dk
    rw [hh.2] at e1
    have e2 : h.c.kd oi = (40, 40) := koi
    rw [e2] at e1
    exact absurd (Prod.mk.inj e1).1 (by decide))
  have kT : T.kd oi = (40, 40) := (FT.kd oi loi).trans koi
  rw [eq]
  refine ⟨nn_of rfl LT.k, pc_size (h := T.srm 0 0) LT (pu ?_)⟩
  by_cases ei : i = V.n - sz k
  rotate_left
  · -- one that stays
    have hi' : i < V.n - sz k := by omega
    refine brF (fun hh => by have := (I_le (by omega) (by omega)).1 hh; omega) ⟨nn_of rfl LT.k, pc_get (h := T.srm 0 0) LT hi' (pu ?_)⟩
    obtain ⟨j, ej⟩ : ∃ j, j = (if i < k then i else i + sz k) := ⟨_, rfl⟩
    have jst : j < V.n ∧ stU k (sz k) j ∧ j ≠ k := by
      rw [ej]
      by_cases hik : i < k
      · rw [if_pos hik]; exact ⟨by omega, .inl (by omega), by omega⟩
      · rw [if_neg hik]; exact ⟨by omega, .inr (by omega), by omega⟩
    have ex : (if i < k then D.r i else D.r (i + sz k)) = D.r j := by rw [ej]; split <;> rfl
    rw [ex]
    have erj : D'.r (rnU k (sz k) P.V.n j) = D.r j := by rw [er]; exact gsel_st _ _ m2 jst.2.1 jst.2.2
    have hrn : rnU k (sz k) P.V.n j < V'.n ∧ rnU k (sz k) P.V.n j = (if i < k then i else i + P.V.n) := by
      rw [ej]
      by_cases hik : i < k
      · rw [if_pos hik, if_pos hik, rnU_le (by omega)]; omega
      · rw [if_neg hik, if_neg hik, rnU_gt (by omega)]; omega
    have Nj := ST.nd _ hrn.1
    have e52 : T.fi 1502 (D.r j) = I (rnU k (sz k) P.V.n j) := by rw [← erj]; exact (ST.ix _ hrn.1).1
    have kj : (T.kd (D.r j)).1 = 15 := by rw [← erj]; exact Nj.k
    have bT : T.ai be = h.ai be := FT.ai be lbe (fun hh => nbe hh.2)
    have kbT : T.kd be = (40, 40) := (FT.kd be lbe).trans kbe
    rw [adr_some, e52, I_ni (by omega), I_ni (by omega), bT, vbe i hi', ← ej]
    refine ⟨.inr (nn_of rfl kj), nn_of rfl kj, ix_of rfl kbT (by omega) (by decide), ix_of rfl kT (by omega) (by decide), ?_⟩
    intro h55 e55
    refine hK _ _ hi' ⟨I_add i 1, by rw [e55]; exact FT.sai _ _ (fun _ => ⟨rfl, rfl⟩), by rw [e55]; exact tz, by rw [e55]; exact tc, by rw [e55]; exact ts, fun e he => ?_⟩
    rw [e55, sai_ai, if_pos rfl, hrn.2]
    have aTe := aT e he
    by_cases hik : i < k
    · rw [if_pos hik] at ej ⊢
      by_cases ee : e = i
      · rw [ee, updN_same, if_pos ⟨hik, by omega⟩, ej]
      · rw [updN_ne _ _ ee, aTe]
        by_cases y1 : e < k ∧ e < i
        · rw [if_pos y1, if_pos ⟨y1.1, by omega⟩]
        · rw [if_neg y1, if_neg (show ¬ (e < k ∧ e < i + 1) by omega)]
          by_cases y2 : k + P.V.n ≤ e ∧ e < i + P.V.n
          · exact absurd y2 (by omega)
          · rw [if_neg y2, if_neg (show ¬ (k + P.V.n ≤ e ∧ e < i + 1 + P.V.n) by omega)]
    · rw [if_neg hik] at ej ⊢
      by_cases ee : e = i + P.V.n
      · rw [ee, updN_same, if_neg (show ¬ (i + P.V.n < k ∧ i + P.V.n < i + 1) by omega), if_pos (show k + P.V.n ≤ i + P.V.n ∧ i + P.V.n < i + 1 + P.V.n by omega), ej, show i + P.V.n + sz k - P.V.n = i + sz k by omega]
      · rw [updN_ne _ _ ee, aTe]
        by_cases y1 : e < k ∧ e < i
        · rw [if_pos y1, if_pos ⟨y1.1, by omega⟩]
        · rw [if_neg y1, if_neg (show ¬ (e < k ∧ e < i + 1) by omega)]
          by_cases y2 : k + P.V.n ≤ e ∧ e < i + P.V.n
          · rw [if_pos y2, if_pos (show k + P.V.n ≤ e ∧ e < i + 1 + P.V.n by omega)]
          · rw [if_neg y2, if_neg (show ¬ (k + P.V.n ≤ e ∧ e < i + 1 + P.V.n) by omega)]
  -- all that stay are told
  subst ei
  clear hK
  have hkn' : k < V'.n := by omega
  have erk : D'.r k = D1.r 0 := by rw [er]; exact in0 _ _
  have Nk := ST.nd k hkn'
  have e52 : T.fi 1502 (D1.r 0) = I k := by rw [← erk]; exact (ST.ix k hkn').1
  have k15 : (T.kd (D1.r 0)).1 = 15 := by rw [← erk]; exact Nk.k
  refine brT ((I_le (by omega) (by omega)).2 (Nat.le_refl _)) ?_
  rw [adr_some (D1.r 0), e52, I_ni (show k < 2147483648 by omega)]
  refine ⟨nn_of rfl k15, ix_of rfl kT (by omega) (by decide), ?_⟩
  intro h95 e95
  have F95 : Fr (fun f b => f = 0 ∧ b = oi) h.c h95.c := by rw [e95]; exact FT.sai _ _ (fun _ => ⟨rfl, rfl⟩)
  have FF95 : Fr (WQ D D1 V) h0.c h95.c := F.trans' F95 (fun f a ha hh => by have h9 : a < h0.sz := ha; omega)
  have kgo : (h95.kd (D.r k)).1 = 15 := by rw [show h95.kd (D.r k) = h0.kd (D.r k) from FF95.kd _ NK.l]; exact NK.k
  have vgo : h95.fr 1507 (D.r k) = some (D.va k) := (FF95.fr _ _ NK.l (WQ.nof (by decide) (by decide) (by decide) (by decide))).trans NK.va
  have vco : h95.fr 1507 (D1.r 0) = some (D1.va 0) := (FF95.fr _ _ N1.l (WQ.nof (by decide) (by decide) (by decide) (by decide))).trans N1.va
  have kvg : h95.kd (D.va k) = (40, 8) := (FF95.kd _ NK.vl).trans NK.vk
  have kvc : h95.kd (D1.va 0) = (40, 8) := (FF95.kd _ N1.vl).trans N1.vk
  rw [adr_some, vgo, vco, adr_some, adr_some, show ni 0 = 0 from rfl, show ni 8 = 8 from rfl]
  refine ⟨nn_of rfl kgo, ⟨_, _, rfl, rfl, by rw [kvg], by rw [kvc], by decide, by decide, by decide, by rw [kvg]; decide, by rw [kvc]; decide⟩, ?_⟩
  intro h97 e97
  have F97 : Fr (fun f b => f = 0 ∧ (b = oi ∨ b = D1.va 0)) h.c h97.c := by
    rw [e97]
    exact (F95.mono (fun f a _ hh => ⟨hh.1, .inl hh.2⟩)).wai _ (fun _ => ⟨rfl, .inr rfl⟩)
  have FF : Fr (WQ D D1 V) h0.c h97.c := F.trans' F97 (fun f a ha hh => by
    have h9 : a < h0.sz := ha
    rcases hh.2 with e | e
    · omega
    · exact .inr (.inr (.inr (.inr ⟨hh.1, .inr e⟩))))
  have vl1 : D1.va 0 < h0.sz := N1.vl
  have S97 : LiR h97.c L D' A.g V' D.t D.rl rd rm V'.n := S.keepA (Nat.le_refl _) F97 (fun f a hh => ⟨hh.1, by
    rcases hh.2 with e | e
    · rw [e]; exact congrArg Prod.fst koi
    · rw [e, show h.c.kd (D1.va 0) = h0.c.kd (D1.va 0) from F.kd _ N1.vl]; exact congrArg Prod.fst N1.vk⟩)
  have ol := E.B0.l
  have x105 : h97.c.fr 105 o = some D.t := (FF.fr _ _ ol (WQ.nof (by decide) (by decide) (by decide) (by decide))).trans TT.xt
  have TR : TrR h97.c L D' A.g V' o := by
    have := S97.tr (o := o) (by rw [FF.kd _ ol]; exact E.B0.k) (Nat.lt_of_lt_of_le ol FF.sz) x105
    have eq : D'.wl D.t D.rl rd rm = D' := by rw [eD]; rfl
    rw [eq] at this
    exact this
  have Gn := E.T.R.Gn
  have nz320 : ∀ {a t : Nat}, h0.c.kd a = (t, 320) → t ≠ 44 → ¬ WQ D D1 V 0 a := fun {a t} hk ht => E.noz hk ht (fun e => by have := (Prod.mk.inj e).2; omega)
  have Y := E.T.R.I.K.Y
  have Tr := E.T.R.I.Tr
  have HR : ∀ tu' un', h97.sz ≤ tu' → h97.sz ≤ un' → HadR h97.c i0 B.kn tu un tu' un' := by
    intro tu' un' q1 q2
    have J := E.T.R.I.K.J
    have fz : h0.sz ≤ h97.sz := FF.sz
    have b1 : B.kn < h0.sz := Y.l1
    have b2 : tu < h0.sz := Tr.l1
    have b3 : un < h0.sz := Tr.l2
    exact ⟨by rw [FF.kd _ J.l]; exact J.k, Nat.lt_of_lt_of_le J.l FF.sz, by rw [FF.fr _ _ J.l (WQ.nof (by decide) (by decide) (by decide) (by decide))]; exact Y.f1, by rw [FF.fr _ _ J.l (WQ.nof (by decide) (by decide) (by decide) (by decide))]; exact Tr.f1, by rw [FF.fr _ _ J.l (WQ.nof (by decide) (by decide) (by decide) (by decide))]; exact Tr.f2, by rw [FF.kd _ Y.l1]; exact Y.k1, by rw [FF.kd _ Tr.l1]; exact Tr.k1, by rw [FF.kd _ Tr.l2]; exact Tr.k2, Nat.lt_of_lt_of_le Y.l1 FF.sz, Nat.lt_of_lt_of_le Tr.l1 FF.sz, Nat.lt_of_lt_of_le Tr.l2 FF.sz, by omega, by omega, by omega⟩
  have hvo : ∀ i, V.is A.g i → v i = (istO A.g V gv).val i := fun i hi => by
    obtain ⟨q, q1, q2⟩ := E.T.R.I.F.a i hi
    exact E.T.N.a i q q2 q1
  have vav : ∀ j a, j < V.n → a < 8 → h97.ai (D.va j) a = v (8 * j + a) := fun j a hj ha => by
    have hh : ¬ WQ D D1 V 0 (D.va j) := fun hh => by
      have hk8 := (TT.nd j hj).vk
      have := (E.od j hj).2.2.2
      rcases hh with (⟨_, j', hj', e⟩ | hh | hh) | hh | hh | hh | ⟨_, e | e⟩
      · have e2 := (TT.nd j' hj').ls.dk
        rw [← e, hk8] at e2
        exact absurd (Prod.mk.inj e2).1 (by decide)
      · omega
      · omega
      · omega
      · omega
      · omega
      · have e2 := TT.rl.dk
        rw [← e, hk8] at e2
        exact absurd (Prod.mk.inj e2).1 (by decide)
      · omega
    rw [show h97.ai (D.va j) = h0.ai (D.va j) from FF.ai _ (TT.nd j hj).vl hh]
    exact E.T.Va j a hj ha
  have vak : ∀ a, a < 8 → h97.ai (D1.va 0) a = v (8 * k + a) := fun a ha => by
    have e1 : h97.ai (D1.va 0) = va_cpy (h95.ai (D.va k)) (h95.ai (D1.va 0)) 0 0 8 := by rw [e97]; exact if_pos rfl
    have e2 : h97.ai (D.va k) = h95.ai (D.va k) := by rw [e97]; exact if_neg (by omega)
    have e3 : va_cpy (h95.ai (D.va k)) (h95.ai (D1.va 0)) 0 0 8 a = h95.ai (D.va k) a := by
      unfold va_cpy
      rw [if_pos ⟨Nat.zero_le _, by omega⟩, Nat.zero_add, Nat.sub_zero]
    rw [e1, e3, ← e2]
    exact vav k a G.hk ha
  have e97' : (D.gr D1 k (sz k) P.V.n rd rm).r k = D1.r 0 := by rw [← eD]; exact erk
  rw [← erk]
  have sz97 : h97.sz = h.sz := by rw [e97, e95]; exact tz
  refine px_gT5 (h := h97) (D := D') (g := g) (v := v) E.ok (E.B0.keep FF (WQ.nof (by decide) (by decide) (by decide) (by decide)) (WQ.nof (by decide) (by decide) (by decide) (by decide)) (E.noz E.B0.j2 (by decide) (by decide))) ?_ (E.Z0.keep' FF (fun a => WQ.nof (by decide) (by decide) (by decide) (by decide)) (fun a => WQ.nof (by decide) (by decide) (by decide) (by decide)) (fun v hv => E.noz (t := (h0.c.kd v).1) (n := (h0.c.kd v).2) rfl (by omega) (fun e => by have := (Prod.mk.inj e).1; omega))) (E.J0.keep FF) (E.I0.keep FF (E.noz E.I0.k (by decide) (by decide)) (fun a => WQ.nof (by decide) (by decide) (by decide) (by decide))) E.hg (zz := zz) (hsh := hsh) ?_ ?_ (Nat.le_trans E.zs FF.sz) ?_ ?_ ?_ G E.d0 TR (ga := ga) ?_ HR E.T.R.I.F ?_ ?_ ?_ ?_ ?_ ?_ (fun e he => by have h9 := S97.nl e he; rw [eD] at h9 ⊢; exact h9) (by have h9 := S97.m1; rw [eD]; exact h9) ?_ ?_ ?_ ?_ ?_ ?_ ?_ ?_ ?_ ?_ ?_ ?_ hQ
  · -- the tape, the status
    refine ⟨?_, ?_, ?_, ?_, ?_⟩
    · rw [FF.fi _ _ ol (WQ.nof (by decide) (by decide) (by decide) (by decide))]; exact E.Y0.n
    · rw [FF.ai _ E.B0.t3 (E.noz E.B0.t2 (by decide) (by decide))]; exact E.Y0.tt
    · rw [FF.fi _ _ ol (WQ.nof (by decide) (by decide) (by decide) (by decide))]; exact E.Y0.st
    · rw [FF.fi _ _ ol (WQ.nof (by decide) (by decide) (by decide) (by decide))]; exact E.Y0.fk
    · rw [FF.fi _ _ ol (WQ.nof (by decide) (by decide) (by decide) (by decide))]; exact E.Y0.fp
  · rw [FF.fr _ _ ol (WQ.nof (by decide) (by decide) (by decide) (by decide))]; exact E.f3
  · have : h97.c.lo = h0.c.lo := by unfold HC.lo; rw [FF.bs]
    rw [this]; exact E.zl
  · refine E.C.kc E.zs FF (fun f a ha hh => ?_)
    have q1 := E.T.z2
    have q2 := E.zw
    rcases hh with (⟨_, j, hj, e⟩ | hh | hh) | hh | hh | hh | ⟨_, e | e⟩
    · have := (E.T.z1 j hj).2.2.1; omega
    · exact .inl (by omega)
    · exact .inl (by omega)
    · exact .inl (by omega)
    · exact .inl (by omega)
    · omega
    · omega
    · omega
  · rw [FF.fr _ _ ol (WQ.nof (by decide) (by decide) (by decide) (by decide))]; exact E.f4
  · intro x sm e
    refine (E.H x sm e).keep FF (fun f h1 h2 => WQ.nof (by omega) (by omega) (by omega) (by omega)) (fun hh => ?_)
    have hk8 := (E.H x sm e).mk
    have hlw := E.hw x sm e
    rcases hh with (⟨_, j', hj', e⟩ | hh | hh) | hh | hh | hh | ⟨_, e | e⟩
    · have e2 := (TT.nd j' hj').ls.dk
      rw [← e, hk8] at e2
      exact absurd (Prod.mk.inj e2).1 (by decide)
    · omega
    · omega
    · omega
    · omega
    · omega
    · have e2 := TT.rl.dk
      rw [← e, hk8] at e2
      exact absurd (Prod.mk.inj e2).1 (by decide)
    · omega
  · -- what is given
    have et : D'.t = D.t := by rw [eD]; rfl
    refine ⟨?_, by rw [FF.kd _ Gn.l]; exact Gn.k, Nat.lt_of_lt_of_le Gn.l FF.sz, fun j hj => by rw [FF.ai _ Gn.l (E.noz Gn.k (by decide) (by decide))]; exact Gn.v j hj⟩
    rw [et, FF.fr _ _ TT.tl (WQ.nof (by decide) (by decide) (by decide) (by decide))]; exact Gn.f
  · intro i hi
    rw [FF.ai _ Y.l1 (nz320 Y.k1 (by decide))]; exact E.T.R.I.R.kn i hi
  · rw [FF.ai _ Tr.l1 (nz320 Tr.k1 (by decide)), FF.ai _ Tr.l2 (nz320 Tr.k2 (by decide))]; exact E.T.N
  · -- values as they were
    intro y hy hn
    have hlt := hy.1
    show h97.ai (D'.va (y / 8)) (y % 8) = _
    rw [eva]
    obtain ⟨j, j1, j2, j3, j4, j5⟩ := G.sg hlt hn
    rw [j4]
    have hv := G.vis hy hn
    rw [j4] at hv
    rw [← hvo _ hv, ← j3]
    by_cases ejk : j = k
    · rw [ejk, rnU_le (Nat.le_refl _), in0]
      exact vak _ (by omega)
    · rw [gsel_st _ _ m2 j2 ejk]
      exact vav j _ j1 (by omega)
  · intro a b ha hb e
    rw [eva, eva] at e
    refine G.inj (fun i j hi hj e => E.T.dv i j hi hj e) (fun p q hp hq e => ?_) (fun i q hi hq e => ?_) a b ha hb e
    · rcases Nat.lt_trichotomy p q with l | l | l
      · exact absurd e (E.NS.ij p q (Nat.zero_le _) l hq).2.2.2
      · exact l
      · exact absurd e.symm (E.NS.ij q p (Nat.zero_le _) l hp).2.2.2
    · have := (E.od i hi).2.2.2
      have := (E.NS.z q (Nat.zero_le _) hq).2.2.2
      omega
  · intro a b ha hb
    have nij : ∀ p q, p < P.V.n → q < P.V.n → (D1.r p = D1.r q → p = q) ∧ (D1.cl p = D1.cl q → p = q) ∧ (D1.cd p = D1.cd q → p = q) := fun p q hp hq => by
      rcases Nat.lt_trichotomy p q with l | l | l
      · have := E.NS.ij p q (Nat.zero_le _) l hq
        exact ⟨fun e => absurd e this.1, fun e => absurd e this.2.1, fun e => absurd e this.2.2.1⟩
      · exact ⟨fun _ => l, fun _ => l, fun _ => l⟩
      · have := E.NS.ij q p (Nat.zero_le _) l hp
        exact ⟨fun e => absurd e.symm this.1, fun e => absurd e.symm this.2.1, fun e => absurd e.symm this.2.2.1⟩
    have ap : ∀ i q, i < V.n → q < P.V.n → D.r i ≠ D1.r q ∧ D.cl i ≠ D1.cl q ∧ D.cd i ≠ D1.cd q := fun i q hi hq => by
      have a := E.od i hi
      have b := E.NS.z q (Nat.zero_le _) hq
      omega
    rw [er, er, ecl, ecl, ecd, ecd]
    exact ⟨fun e => G.inj (fun i j hi hj => (E.T.ij i j hi hj).1) (fun p q hp hq => (nij p q hp hq).1) (fun i q hi hq => (ap i q hi hq).1) a b ha hb e, fun e => G.inj (fun i j hi hj => (E.T.ij i j hi hj).2.1) (fun p q hp hq => (nij p q hp hq).2.1) (fun i q hi hq => (ap i q hi hq).2.1) a b ha hb e, fun e => G.inj (fun i j hi hj => (E.T.ij i j hi hj).2.2) (fun p q hp hq => (nij p q hp hq).2.2) (fun i q hi hq => (ap i q hi hq).2.2) a b ha hb e⟩
  · have et : D'.t = D.t := by rw [eD]; rfl
    have tl : D.t < h.c.sz := S.tl
    rw [et, F97.fr _ _ tl (fun hh => by omega)]; exact rt
  · intro e he
    have q2 := E.zw
    rw [er, ecl, ecd, eva]
    refine ⟨G.all (C := fun a => zz ≤ a) (fun i hi => (E.T.z1 i hi).1) (fun q hq => by have := (E.NS.z q (Nat.zero_le _) hq).1; omega) e he, G.all (C := fun a => zz ≤ a) (fun i hi => (E.T.z1 i hi).2.1) (fun q hq => by have := (E.NS.z q (Nat.zero_le _) hq).2.1; omega) e he, G.all (C := fun a => zz ≤ a) (fun i hi => (E.T.z1 i hi).2.2.1) (fun q hq => by have := (E.NS.z q (Nat.zero_le _) hq).2.2.1; omega) e he, G.all (C := fun a => zz ≤ a) (fun i hi => (E.T.z1 i hi).2.2.2) (fun q hq => by have := (E.NS.z q (Nat.zero_le _) hq).2.2.2; omega) e he⟩
  · have q1 := E.T.z2
    have q3 : zz ≤ h0.sz := E.zs
    have et : D'.t = D.t ∧ D'.rl = D.rl ∧ D'.rd = rd := by rw [eD]; exact ⟨rfl, rfl, rfl⟩
    rw [et.1, et.2.1, et.2.2]
    omega
  · intro x sm e j hj
    rw [eva]
    exact G.all (C := fun a => a ≠ sm) (fun i hi => E.hn x sm e i hi) (fun q hq => by have := (E.NS.z q (Nat.zero_le _) hq).2.2.2; have := E.hw x sm e; omega) j hj
  · rw [show h97.kd oi = h.kd oi from F97.kd oi loi]; exact koi
  · omega
  · intro j hj
    rw [eva]
    exact G.all (C := fun a => a ≠ oi) (fun i hi => by have := (E.od i hi).2.2.2; omega) (fun q hq => by have : D1.va q < h0.sz := (E.NS.nd q (Nat.zero_le _) hq).vl; omega) j hj
  · intro e he
    have e1 : h97.ai oi = updN (T.ai oi) k (I k) := by
      rw [e97]
      show (if oi = D1.va 0 then _ else h95.ai oi) = _
      rw [if_neg (by omega), e95, sai_ai, if_pos rfl]
    rw [e1]
    by_cases ek : e = k
    · rw [ek, updN_same, if_neg (by omega), if_pos (Nat.le_refl _)]
    · rw [updN_ne _ _ ek, aT e (by omega)]
      by_cases y1 : e < k
      · rw [if_pos ⟨y1, by omega⟩, if_neg (by omega), if_pos (by omega)]
      · rw [if_neg (by omega)]
        by_cases y2 : k + P.V.n ≤ e
        · rw [if_pos ⟨y2, by omega⟩, if_neg (by omega), if_neg (by omega)]
        · rw [if_neg (by omega), if_pos ⟨by omega, by omega⟩]
  · rw [show h97.kd a0 = h.kd a0 from F97.kd a0 la0]; exact ka0
  · omega
  · intro q hq
    have na : ¬ ((0 : Nat) = 0 ∧ (a0 = oi ∨ a0 = D1.va 0)) := fun hh => by
      rcases hh.2 with e | e
      · rw [e, koi] at ka0; exact absurd (Prod.mk.inj ka0).1 (by decide)
      · have e2 : h.kd (D1.va 0) = (40, 8) := (F.kd _ N1.vl).trans N1.vk
        rw [e, e2] at ka0; exact absurd (Prod.mk.inj ka0).1 (by decide)
    rw [show h97.ai a0 = h.ai a0 from F97.ai a0 la0 na]; exact va0 q hq
  · have : h97.rc = h.rc := by rw [e97, e95]; exact tc
    omega
  · have : h97.rs = h.rs := by rw [e97, e95]; exact ts
    omega
end
