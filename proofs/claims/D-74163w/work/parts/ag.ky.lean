/-! plain: ky -/
set_option maxRecDepth 100000
section
variable {h : AH} {lo q o jn tpa : Nat} {tp : Nat → Nat} {n : Nat} {t : Tk} {L : GA} {A : PG} {g : Nat} {D D' : TA}

/-- what a reading of a node must do. -/
def SpN (lo q o jn tpa : Nat) (tp : Nat → Nat) (n : Nat) (L : GA) (A : PG) (g oth f : Nat) (N : Nat → Option Nat → Int32 → Int32 → AH → (Option Nat → AH → Prop) → (Nat → AH → Prop) → Prop) (F : Option Nat → Nat → Option Nat → Nat → PT → Tk → RN) : Prop :=
  ∀ (h : AH) (t : Tk) (need : Option Nat) (dp : Nat) (pa : Option Nat) (pl : Nat) (P : PT) (D : TA) (r : RN) (Pp : Option Nat → AH → Prop) (X : Nat → AH → Prop),
    NdC h.c lo q o jn tpa tp n L A g P.V.n t → F need dp pa pl P t = r → dp ≤ 12 → 13 ≤ f + dp → oth + P.V.n ≤ 40 → (∀ s, need = some s → s < A.g.nS) →
    64 * (eE n (fun x => x.2) r - t.fr) ≤ h.rc → 1024 * (eE n (fun x => x.2) r - t.fr) ≤ h.rs →
    (∀ Q' t', r = .ok (Q', t') → ∀ h' D', Fr (WN lo q) h.c h'.c → NdC h'.c lo q o jn tpa tp n L A g Q'.V.n t' → TaE D D' P.V.n → NdS h'.c L D' A.g Q'.V P.V.n Q'.V.n h.sz → h'.rc = h.rc - 64 * (t'.fr - t.fr) → h'.rs = h.rs - 1024 * (t'.fr - t.fr) → Pp (some (D'.r P.V.n)) h') →
    (∀ e, r = .error e → ∀ x h', Fr (WN lo q) h.c h'.c → ThR h'.c x e → X x h') →
    cl h fun mc ms => N q (need.map L.sa) (I dp) (I oth) (h.srm mc ms) (fun r h3 => ∀ h4, h4 = h3.srm (h.rc - mc) (h.rs - ms) → Pp r h4) (fun q8 h9 => ∀ h10, h10 = h9.srm (h.rc - mc) (h.rs - ms) → X q8 h10)

theorem g_rnT {oth f : Nat} {rN : Nat → Option Nat → Int32 → Int32 → AH → (Option Nat → AH → Prop) → (Nat → AH → Prop) → Prop} (hN : SpN lo q o jn tpa tp n L A g oth f rN (pNd tp n A oth f)) {P : PT} {p dp pl : Nat} {pa : Option Nat} {r : RN} (C : NdC h.c lo q o jn tpa tp n L A g P.V.n t) (hp : p < A.g.nP) (hnm : isNm tp t = true) (hdp : dp < 12) (h13 : 13 ≤ f + (dp + 1)) (h40 : oth + P.V.n < 40)
    (er : pKs tp n A p P.V.n dp (pNd tp n A oth f) (A.g.kn p) 0 (P.add p (if (nxt tp n t).kd = 3 then (nxt tp n t).nu else 0) pa pl dp) (if (nxt tp n t).kd = 3 then nxt tp n (nxt tp n t) else nxt tp n t) = r)
    (hc : 64 * (eE n (fun x => x.2) r - t.fr) ≤ h.rc + 10) (hs : 1024 * (eE n (fun x => x.2) r - t.fr) ≤ h.rs + 100) {Pp : Option Nat → AH → Prop} {X : Nat → AH → Prop}
    (h1 : ∀ Q' t', r = .ok (Q', t') → ∀ h' D', Fr (WN lo q) h.c h'.c → NdC h'.c lo q o jn tpa tp n L A g Q'.V.n t' → TaE D D' P.V.n → NdS h'.c L D' A.g Q'.V P.V.n Q'.V.n h.sz → Pp (some (D'.r P.V.n)) h')
    (h0 : ∀ e, r = .error e → ∀ x h', Fr (WN lo q) h.c h'.c → ThR h'.c x e → X x h') : rnT rN q (some (L.pa p)) (I dp) (I oth) h Pp X := by
  have W := C.B.W
  have hk3 := W.kn p hp
  have le0 := C.K.le
  have nt : nN n t := ⟨le0, C.K.T.l2⟩
  have it := C.K.it
  have up1 := it.up (nm_ne hnm)
  have hnd : ∀ need dp pa pl P t, isT tp n t → nN n t → ndG tp n t (pNd tp n A oth f need dp pa pl P t) := fun need dp pa pl P t ht hn => pNd_g f need dp pa pl P t ht hn
  generalize hu : (if (nxt tp n t).kd = 3 then (nxt tp n t).nu else 0) = u at er
  generalize ht2 : (if (nxt tp n t).kd = 3 then nxt tp n (nxt tp n t) else nxt tp n t) = t2 at er
  have i2 : isT tp n t2 ∧ nN n t2 ∧ t.fr + 1 ≤ t2.fr := by
    rw [← ht2]
    split
    · have := it.nx.le
      exact ⟨it.nx.nx, nt.nx.nx, by omega⟩
    · exact ⟨it.nx, nt.nx, up1⟩
  have far : t2.fr ≤ eE n (fun x : PT × Tk => x.2) r := eE_ge i2.2.1.1 (fun b hb => (pKs_g (oth := oth) hnd _ 0 _ _ b i2.1 i2.2.1 (er.trans hb)).1)
  generalize hEE : eE n (fun x : PT × Tk => x.2) r = E at *
  unfold rnT
  rw [show h.fi 311 q = I P.V.n from C.f, show I P.V.n + 1 = I (P.V.n + 1) from I_add _ 1]
  intro h23 e23
  have lq := C.K.R.b
  have G23 : Fr (fun f a => f = 311 ∧ a = q) h.c h23.c := by rw [e23]; exact (Fr.refl _).sfi _ (fun _ => ⟨rfl, rfl⟩)
  have F23 : Fr (WN lo q) h.c h23.c := G23.mono (fun f a _ hh => ⟨by rw [← C.K.L]; omega, .inl (by omega)⟩)
  have K23 := C.K.keep G23 (fun f a hh => ⟨by omega, .inl ⟨hh.2, by omega⟩⟩)
  have f23 : h23.c.fi 311 q = I (P.V.n + 1) := by rw [e23]; exact sfi_same _ _ _ _
  have r23 : h23.rc = h.rc ∧ h23.rs = h.rs := by rw [e23]; exact ⟨rfl, rfl⟩
  -- a reader of nodes over a frame
  have mkC : ∀ {U : AH} {t1 : Tk} {m : Nat}, Fr (WN lo q) h.c U.c → RdK U.c lo q o jn tpa tp n t1 → U.c.fi 311 q = I m → NdC U.c lo q o jn tpa tp n L A g m t1 := fun F K f => ⟨K, C.B.keepR F (fun _ _ _ hh => hh.fl), by rw [F.fr 103 o C.K.R.B.l (fun hh => by have := hh.2; omega)]; exact C.gg, f⟩
  have thr : ∀ {c1 : HC} {e : Fl} {u v : Nat}, Fr (WN lo q) h.c c1 → r = .error e → ∀ x (h' : AH), Fr (WN lo q) c1 h'.c → ThR h'.c x e → ∀ h10, h10 = h'.srm u v → X x h10 := by
    intro c1 e u v F1 he x h' F' T h10 e10
    have c10 : h10.c = h'.c := by rw [e10]; rfl
    exact h0 _ he x h10 (by rw [c10]; exact F1.trans F') (by rw [c10]; exact T)
  refine g_reads K23 (by omega) (by omega) ?_
  intro h26 F26 K26 rc26 rs26
  have F26' := F23.trans (F26.wn)
  have f26 : h26.c.fi 311 q = I (P.V.n + 1) := (F26.fi 311 q K23.R.l (fun hh => by have := hh.2; omega)).trans f23
  refine ⟨⟨by omega, by omega⟩, ?_⟩
  intro h30 e30
  have F30 : Fr W0 h26.c h30.c := by rw [e30]; exact (Fr.refl _).new _ _ _
  have K30 := K26.keep0 F30
  have r30 : h30.rc = h26.rc - 1 ∧ h30.rs = h26.rs - 9 := by rw [e30]; exact ⟨rfl, rfl⟩
  have z30 : h30.sz = h26.sz + 1 := by rw [e30]; rfl
  have k30 : (h30.kd h26.sz).1 = 15 := by rw [e30, new_kd, if_pos rfl]
  have n30 : h30.c.fr 1504 h26.sz = none := by
    show h30.fr 1504 h26.sz = none
    rw [e30, new_fr, if_pos rfl]
  have f30 : h30.c.fi 311 q = I (P.V.n + 1) := (F30.fi 311 q K26.R.l id).trans f26
  have F30' := F26'.trans (F30.wn0)
  have zz : h.c.sz ≤ h26.c.sz := F26'.sz
  have zz1 : h26.c.sz = h26.sz := rfl
  have zz2 : h.c.sz = h.sz := rfl
  refine ⟨nn_of rfl K30.R.k, ?_⟩
  refine ⟨fun x U => x = I u ∧ Fr (WN lo q) h.c U.c ∧ RdK U.c lo q o jn tpa tp n t2 ∧ U.c.fi 311 q = I (P.V.n + 1) ∧ (U.c.kd h26.sz).1 = 15 ∧ h26.sz < U.c.sz ∧ U.c.fr 1504 h26.sz = none ∧ h26.rc - 6 ≤ U.rc ∧ h26.rs - 77 ≤ U.rs, ?_, ?_⟩
  · have f8 : h30.fi 308 q = if (nxt tp n t).kd = 1 then 1 else 0 := K30.T.f8
    have f7 : h30.fi 307 q = if dgt tp n (nxt tp n t).fr then 1 else 0 := K30.T.f7
    rw [f8, f7]
    have k3 := kd3 K30
    have base : (nxt tp n t).kd ≠ 3 → (0 : Int32) = I u ∧ Fr (WN lo q) h.c h30.c ∧ RdK h30.c lo q o jn tpa tp n t2 ∧ h30.c.fi 311 q = I (P.V.n + 1) ∧ (h30.c.kd h26.sz).1 = 15 ∧ h26.sz < h30.c.sz ∧ h30.c.fr 1504 h26.sz = none ∧ h26.rc - 6 ≤ h30.rc ∧ h26.rs - 77 ≤ h30.rs := by
      intro n3
      rw [if_neg n3] at hu ht2
      refine ⟨by rw [← hu]; rfl, F30', by rw [← ht2]; exact K30, f30, k30, by show h26.sz < h30.sz; omega, n30, by omega, by omega⟩
    by_cases hd : dgt tp n (nxt tp n t).fr = true
    · rw [if_pos hd]
      refine brF (by decide) ?_
      by_cases hb : (nxt tp n t).kd = 1
      · rw [if_pos hb]
        exact brF (by decide) (base (by omega))
      · rw [if_neg hb]
        have hk := k3.2 ⟨hd, hb⟩
        refine brT rfl ?_
        refine g_number K30 (by omega) (by omega) ?_ (fun hh => absurd hk hh)
        intro _ h38 F38 K38 rc38 rs38
        rw [if_pos hk] at hu ht2
        refine ⟨by rw [← hu], F30'.trans F38.wn, by rw [← ht2]; exact K38, (F38.fi 311 q K30.R.l (fun hh => by have := hh.2; omega)).trans f30, by rw [F38.kd _ (by show h26.sz < h30.sz; omega)]; exact k30, ?_, ?_, by omega, by omega⟩
        · have : h30.c.sz ≤ h38.c.sz := F38.sz
          have : h30.c.sz = h30.sz := rfl
          omega
        · rw [F38.fr 1504 _ (by show h26.sz < h30.sz; omega) (fun hh => by have := hh.fl; omega)]; exact n30
    · rw [if_neg hd]
      exact brT rfl (base (fun hh => hd (k3.1 hh).1))
  intro x45 T46 hh
  obtain ⟨ex, FT, KT, fT, kT, lT, nT, rcT, rsT⟩ := hh
  rw [ex]
  refine ⟨3, 13, ⟨by omega, by omega⟩, ?_⟩
  refine px_ndInit (h := T46.srm 3 13) kT lT (Nat.le_refl _) (Nat.le_refl _) ?_
  intro h48 cl cd va F48 a0 a1 a6 Lc AV hz h49 e49
  have c49 : h49.c = h48.c := by rw [e49]; rfl
  have r49 : h49.rc = T46.rc - 3 ∧ h49.rs = T46.rs - 13 := by rw [e49]; exact ⟨rfl, rfl⟩
  have G49 : Fr (fun f b => b = h26.sz ∧ 1500 ≤ f ∧ f ≤ 1507 ∧ f ≠ 1504 ∧ f ≠ 1505) T46.c h49.c := by rw [c49]; exact F48
  have FT49 : Fr (WN lo q) h.c h49.c := FT.trans' G49 (fun f a ha hh => by omega)
  have lT' := KT.R.b
  have q26 : q < h26.sz := K26.R.l
  have K49 := KT.keep G49 (fun f a hh => ⟨by omega, .inr (.inl (by omega))⟩)
  have C49 := mkC (m := P.V.n + 1) FT49 K49 (by rw [G49.fi 311 q KT.R.l (by omega)]; exact fT)
  have PR49 := C49.B.S.pr p hp
  have D0 := D.upd P.V.n h26.sz cl cd 2 va
  -- the node alone
  have hz' : T46.c.sz ≤ cl ∧ T46.c.sz ≤ cd ∧ T46.c.sz ≤ va := hz
  have szT : h26.sz < T46.c.sz := lT
  have N49 : NdL h49.c L (D.upd P.V.n h26.sz cl cd 2 va) A.g (P.add p u pa pl dp).V P.V.n 0 (P.V.n + 1) h.sz := by
    have e1 : (D.upd P.V.n h26.sz cl cd 2 va).r P.V.n = h26.sz := updN_same _ _ _
    have e2 : (D.upd P.V.n h26.sz cl cd 2 va).cl P.V.n = cl := updN_same _ _ _
    have e3 : (D.upd P.V.n h26.sz cl cd 2 va).cd P.V.n = cd := updN_same _ _ _
    have e4 : (D.upd P.V.n h26.sz cl cd 2 va).cm P.V.n = 2 := updN_same _ _ _
    have e5 : (D.upd P.V.n h26.sz cl cd 2 va).va P.V.n = va := updN_same _ _ _
    have e6 : (P.add p u pa pl dp).V.pd P.V.n = p := updN_same _ _ _
    have e7 : (P.add p u pa pl dp).V.nu P.V.n = I u := updN_same _ _ _
    refine ⟨⟨by rw [e1, G49.kd _ lT]; exact kT, ?_, by rw [e1, e6, c49]; exact a0, by rw [e1, e7, c49]; exact a1, by rw [e1, e2, c49]; exact a6, by rw [e2, e3, e4, c49]; exact Lc _, by rw [e4]; decide, by rw [e1, e5, c49]; exact AV.fr, by rw [e5, c49]; exact AV.kd, by rw [e5, c49]; exact AV.l, fun j _ => by rw [e5, c49]; exact AV.ai j⟩, fun k h1 h2 => absurd h2 (by omega), fun k h1 h2 => absurd h2 (by omega), ?_, fun k h1 h2 => ?_, fun j k h1 h2 h3 => absurd h3 (by omega)⟩
    · rw [e1]
      have : T46.c.sz ≤ h49.c.sz := G49.sz
      omega
    · rw [e1, G49.fr 1504 _ lT (by omega)]; exact nT
    · have ek : k = P.V.n := by omega
      rw [ek, e1, e2, e3, e5]
      omega
  have NN : NdN A.g (P.add p u pa pl dp).V P.V.n 0 (P.V.n + 1) := ⟨fun i h1 h2 => absurd h2 (by omega), fun k h1 h2 => absurd h2 (by omega), fun k h1 h2 => absurd h2 (by omega)⟩
  have epd : (P.add p u pa pl dp).V.pd P.V.n = p := updN_same _ _ _
  have bud : 64 * (E - t2.fr) + 20 ≤ h49.rc ∧ 1024 * (E - t2.fr) + 200 ≤ h49.rs := by
    have := i2.2.2
    constructor <;> omega
  refine ⟨nn_of rfl PR49.k, ?_⟩
  rw [adr_some]
  refine px_children (h := h49.srm 0 0) W hp PR49 (pu ?_)
  by_cases hk0 : A.g.kn p = 0
  · rw [hk0] at er ⊢
    refine brT rfl ?_
    unfold pKs at er
    rw [if_pos hk0] at er
    have hh := h1 _ _ er.symm h49 (D.upd P.V.n h26.sz cl cd 2 va) FT49 C49 (TaE.upd (Nat.le_refl _)) (N49.S (by rw [epd]; exact hk0.symm) (Nat.lt_succ_self _))
    rw [show (D.upd P.V.n h26.sz cl cd 2 va).r P.V.n = h26.sz from updN_same _ _ _] at hh
    exact hh
  refine brF (fun hh => hk0 ((I_eq (by omega) (by decide)).1 (show I (A.g.kn p) = I 0 from hh))) ?_
  refine xlp_cnt (A.g.kn p) (fun j s U => s = I (j + 1) ∧ ∃ Pj tj Dj, pKs tp n A p P.V.n dp (pNd tp n A oth f) (A.g.kn p - j) j Pj tj = r ∧ Fr (WN lo q) h.c U.c ∧ NdC U.c lo q o jn tpa tp n L A g Pj.V.n tj ∧ TaE D Dj P.V.n ∧ NdL U.c L Dj A.g Pj.V P.V.n j Pj.V.n h.sz ∧ NdN A.g Pj.V P.V.n j Pj.V.n ∧ P.V.n < Pj.V.n ∧ oth + Pj.V.n ≤ 40 ∧ Pj.V.pd P.V.n = p ∧ Dj.r P.V.n = h26.sz ∧ 64 * (E - tj.fr) + 20 ≤ U.rc ∧ 1024 * (E - tj.fr) + 200 ≤ U.rs)
    ⟨rfl, P.add p u pa pl dp, t2, D.upd P.V.n h26.sz cl cd 2 va, er, FT49, C49, TaE.upd (Nat.le_refl _), N49, NN, Nat.lt_succ_self _, h40, epd, updN_same _ _ _, bud.1, bud.2⟩ ?_
  intro j s U K2 hj hh hK
  clear bud r49 rcT rsT r30 rc26 rs26 r23 hc hs far N49 NN G49 hz' lT' lT szT
  obtain ⟨es, Pj, tj, Dj, ej, FU, CU, TU, NU, MU, hlt, hle, hpd, hrr, rcU, rsU⟩ := hh
  rw [es]
  have PRU := CU.B.S.pr p hp
  refine ⟨nn_of rfl PRU.k, ?_⟩
  refine px_children (h := U.srm 0 0) W hp PRU (pu ?_)
  have ntj : nN n tj := ⟨CU.K.le, CU.K.T.l2⟩
  have itj := CU.K.it
  by_cases ek : j = A.g.kn p
  · -- all children are there
    have e0 : A.g.kn p - j = 0 := by omega
    rw [e0] at ej
    unfold pKs at ej
    rw [if_neg hk0] at ej
    refine brT ((I_lt (by omega) (by omega)).2 (by omega)) ⟨nn_of rfl CU.K.R.k, ?_⟩
    have hb : isB tp n tj (ksb 15) ↔ isSg tj 41 = true := isB_s CU.K.T.kk (by decide)
    unfold pEat at ej
    refine g_must CU.K (by decide) hb (by omega) (by omega) ?_ ?_
    · intro hsg h68 F68 K68 _ _
      rw [if_pos hsg] at ej
      have F68' := FU.trans (F68.wn)
      have hh := h1 _ _ ej.symm h68 Dj F68' (mkC (m := Pj.V.n) F68' K68 ((F68.fi 311 q CU.K.R.l (fun hh => by have := hh.2; omega)).trans CU.f)) TU ((NU.wn F68.wn).S (by rw [hpd]; exact ek) hlt)
      rw [hrr] at hh
      exact hh
    · intro hsg x h' F' T'
      rw [if_neg (by rw [hsg]; decide)] at ej
      exact h0 _ ej.symm x h' (FU.trans F'.wn0) T'
  -- one more child
  have hjk : j < A.g.kn p := by omega
  have e1 : A.g.kn p - j = (A.g.kn p - (j + 1)) + 1 := by omega
  rw [e1] at ej
  unfold pKs at ej
  refine brF (fun hh => by have := (I_lt (by omega) (by omega)).1 hh; omega) ?_
  obtain ⟨ci, cc, hci, eci, hsgc, hcc, hJ⟩ : ∃ ci cc, ci < 24 ∧ ksb ci = [cc] ∧ sgn cc = true ∧ (if j = 0 then 40 else 44) = cc ∧ ∀ J : Option Nat → AH → Prop, J (sref (U.cs ci)) U → ((I (j + 1) = 1 → J (sref (U.cs 14)) U) ∧ (¬ I (j + 1) = 1 → J (sref (U.cs 16)) U)) := by
    by_cases j0 : j = 0
    · refine ⟨14, 40, by decide, rfl, by decide, if_pos j0, fun J hJ => brT (by rw [j0]; rfl) hJ⟩
    · refine ⟨16, 44, by decide, rfl, by decide, if_neg j0, fun J hJ => brF (fun hh => j0 (by have := (I_eq (by omega) (by decide)).1 (show I (j + 1) = I 1 from hh); omega)) hJ⟩
  rw [hcc] at ej
  refine ⟨fun x V => x = sref (U.cs ci) ∧ V = U, hJ (fun x V => x = sref (U.cs ci) ∧ V = U) ⟨rfl, rfl⟩, ?_⟩
  intro x78 T79 hh
  rw [hh.1, hh.2]
  refine ⟨nn_of rfl CU.K.R.k, ?_⟩
  have hb : isB tp n tj (ksb ci) ↔ isSg tj cc = true := by rw [eci]; exact isB_s CU.K.T.kk hsgc
  unfold pEat at ej
  refine g_must CU.K hci hb (by omega) (by omega) ?_ ?_
  rotate_left
  · intro hsg x h' F' T'
    rw [if_neg (by rw [hsg]; decide)] at ej
    exact h0 _ ej.symm x h' (FU.trans F'.wn0) T'
  intro hsg h83 F83 K83 rc83 rs83
  rw [if_pos hsg] at ej
  dsimp only at ej
  have up3 := itj.up (sg_ne hsg)
  have F83' := FU.trans (F83.wn)
  have C83 := mkC (m := Pj.V.n) F83' K83 ((F83.fi 311 q CU.K.R.l (fun hh => by have := hh.2; omega)).trans CU.f)
  have N83 := NU.wn F83.wn
  have PR83 := C83.B.S.pr p hp
  have ntk : nN n (nxt tp n tj) := ⟨K83.le, K83.T.l2⟩
  generalize hr1 : pNd tp n A oth f (some (A.g.sy p (j + 1))) (dp + 1) (some P.V.n) (j + 1) (Pj.kid P.V.n (j + 1)) (nxt tp n tj) = r1 at ej
  have g1 := pNd_g (tp := tp) (n := n) (A := A) (oth := oth) f (some (A.g.sy p (j + 1))) (dp + 1) (some P.V.n) (j + 1) (Pj.kid P.V.n (j + 1)) (nxt tp n tj) K83.it ntk
  have E1 : eE n (fun x : PT × Tk => x.2) r1 ≤ E ∧ (nxt tp n tj).fr + 1 ≤ E := by
    cases hr : r1 with
    | error x =>
      rw [hr] at ej
      have e9 : E = n + 1 := by rw [← hEE, ← ej]; rfl
      have := K83.le
      exact ⟨by rw [eE_er rfl]; omega, by omega⟩
    | ok b =>
      have a1 := g1 b (hr1.trans hr)
      rw [hr] at ej
      dsimp only at ej
      have a2 : b.2.fr ≤ E := by
        rw [← hEE]
        exact eE_ge a1.2.2.1 (fun b' hb' => (pKs_g (oth := oth) hnd _ _ _ _ b' a1.2.1 a1.2.2 (ej.trans hb')).1)
      exact ⟨by rw [eE_ok rfl]; exact a2, by omega⟩
  have B83 : 64 * (E - (nxt tp n tj).fr) + 79 ≤ h83.rc ∧ 1024 * (E - (nxt tp n tj).fr) + 1100 ≤ h83.rs := by
    have := E1.2
    constructor <;> omega
  clear rc83 rs83 rcU rsU
  refine ⟨nn_of rfl PR83.k, ?_⟩
  rw [show h83.fr 701 (L.pa p) = some (L.ql p) from PR83.sf]
  refine ⟨nn_of rfl PR83.sl.k, ?_⟩
  rw [adr_some]
  refine px_sym (h := h83.srm 0 0) PR83 (k := j + 1) (by omega) (pu ?_)
  have hsy := W.sy p (j + 1) hp (by omega)
  refine ⟨.inr (nn_of rfl (C83.B.S.sy _ hsy).k), nn_of rfl K83.R.k, ?_⟩
  rw [show I dp + 1 = I (dp + 1) from I_add _ 1]
  refine hN h83 (nxt tp n tj) (some (A.g.sy p (j + 1))) (dp + 1) (some P.V.n) (j + 1) (Pj.kid P.V.n (j + 1)) Dj r1 _ _ C83 hr1 (by omega) h13 hle (fun s hs => (Option.some.inj hs) ▸ hsy) (by omega) (by omega) ?_ ?_
  rotate_left
  · intro e he
    rw [he] at ej
    intro x h' F' T'
    exact h0 _ ej.symm x h' (F83'.trans F') T'
  intro Q' t' eo h98 D' F98 C98 T98 S98 rc98 rs98
  rw [eo] at ej hr1
  dsimp only at ej
  have a1 := g1 _ (hr1.trans rfl)
  have a11 : (nxt tp n tj).fr + 1 ≤ t'.fr := a1.1
  have R1 := pNd_ok W f _ _ _ _ (Pj.kid P.V.n (j + 1)) _ Q' t' hle hr1
  have F98' := F83'.trans F98
  have N98 := N83.wn F98
  have lt1 : Pj.V.n < Q'.V.n := R1.lt
  have tE : t'.fr ≤ E := by
    rw [← hEE]
    exact eE_ge a1.2.2.1 (fun b' hb' => (pKs_g (oth := oth) hnd _ _ _ _ b' a1.2.1 a1.2.2 (ej.trans hb')).1)
  have B98 := S98.nd Pj.V.n (Nat.le_refl _) lt1
  have G98 : 64 * (E - t'.fr) + 79 ≤ h98.rc ∧ 1024 * (E - t'.fr) + 1100 ≤ h98.rs := ⟨bud64 B83.1 (by omega) tE (Nat.le_of_eq rc98.symm), bud1k B83.2 (by omega) tE (Nat.le_of_eq rs98.symm)⟩
  clear B83 rc98 rs98 E1
  have z83 : h83.c.sz = h83.sz := rfl
  have zU : h.c.sz ≤ h83.c.sz := F83'.sz
  refine ⟨nn_of rfl (by rw [← hrr]; exact N98.n0.k), ?_⟩
  rw [← hrr]
  refine g_adds N98.n0.k N98.n0.l N98.n0.ch N98.n0.ls (fun i hi => ?_) N98.n0.m1 (by omega) B98.k B98.l (by omega) (by omega) ?_
  · have c0 := MU.c0 (i + 1) (by omega) (by omega)
    have Nk := N98.nd _ c0.1 c0.2
    exact ⟨Nk.l, by rw [Nk.k]; rfl⟩
  intro h108 cd' cm' F108 L108 hm108 hd108 f4 f5 rc108 rs108
  have zle : h.sz ≤ h98.c.sz := by
    have : h83.c.sz ≤ h98.c.sz := F98.sz
    omega
  have NA := N98.add (D' := D') (T' := Q'.V) (b' := Q'.V.n) (cd' := cd') (cm' := cm') MU hlt lt1 T98 (fun k hk => ⟨R1.F.pd k hk, R1.F.nu k hk, R1.F.pa k hk, R1.F.pl k hk⟩) (fun k hk hne => (R1.F.kd k hk).trans (updN_ne _ _ hne)) ((R1.F.kd _ hlt).trans (updN_same _ _ _)) R1.rp R1.rl S98 (by omega) (fun k h1 h2 => ?_) F108 L108 hm108 (hd108.elim .inl (fun e => .inr ⟨e, zle⟩)) f4 f5
  rotate_left
  · by_cases e9 : k = P.V.n
    · rw [e9]
      exact ⟨N83.n0.l, N83.n0.ls.al, N83.n0.ls.dl, N83.n0.vl⟩
    · have Nk := N83.nd k (by omega) h2
      exact ⟨Nk.l, Nk.ls.al, Nk.ls.dl, Nk.vl⟩
  have zc := N98.z P.V.n (Nat.le_refl _) hlt
  have zb := S98.z Pj.V.n (Nat.le_refl _) lt1
  have cdk : (h98.c.kd (Dj.cd P.V.n)).1 = 44 := by rw [N98.n0.ls.dk]
  have FF : Fr (WN lo q) h.c h108.c := F98'.trans' F108 (fun f y hy hh => by
    rcases hh with (⟨e, _⟩ | ⟨_, e⟩) | ⟨e, _⟩ <;> omega)
  have lb := C98.K.R.b
  have qh : q < h.c.sz := C.K.R.l
  have K108 : RdK h108.c lo q o jn tpa tp n t' := C98.K.keep F108 (fun f y hh => by
    rcases hh with (⟨e, hf⟩ | ⟨e1, e2⟩) | ⟨e, hf⟩
    · exact ⟨by omega, .inr (.inl (by omega))⟩
    · exact ⟨by omega, .inr (.inr ⟨e1, by rw [e2, cdk]; decide, by rw [e2, cdk]; decide⟩)⟩
    · exact ⟨by omega, .inr (.inl (by omega))⟩)
  have C108 := mkC (m := Q'.V.n) FF K108 (by
    rw [F108.fi 311 q C98.K.R.l (by rintro ((⟨_, e⟩ | ⟨e, _⟩) | ⟨_, e⟩) <;> omega)]
    exact C98.f)
  rw [show I (j + 1) + 1 = I (j + 1 + 1) from I_add _ 1]
  have ndc : ∀ k, Pj.V.n ≤ k → k < Q'.V.n → ∀ i, 1 ≤ i → i ≤ A.g.kn (Q'.V.pd k) → k < Q'.V.kd k i ∧ Q'.V.kd k i < Q'.V.n := fun k h1 h2 i h3 h4 => by
    have Kk := R1.nd k h1 h2
    have c1 := Kk.c i h3 h4
    have s2 := Kk.s2
    exact ⟨c1.1.1, by have := c1.1.2; omega⟩
  refine hK _ _ hjk ⟨rfl, Q', t', _, ej, FF, C108, (TU.trans T98 (Nat.le_of_lt hlt)).trans (TaE.upd (Nat.le_refl _)) (Nat.le_refl _), NA, ⟨fun i h1 h2 => ?_, fun k h1 h2 i h3 h4 => ?_, fun k h1 h2 => ?_⟩, by omega, R1.le, (R1.F.pd _ hlt).trans hpd, (updN_same _ _ _).trans hrr, by omega, by omega⟩
  · have ek9 : Q'.V.kd P.V.n = updN (Pj.V.kd P.V.n) (j + 1) Pj.V.n := (R1.F.kd _ hlt).trans (updN_same _ _ _)
    rw [ek9]
    by_cases ei : i = j + 1
    · rw [ei, updN_same]; exact ⟨hlt, lt1⟩
    · rw [updN_ne _ _ ei]
      have := MU.c0 i h1 (by omega)
      exact ⟨this.1, by omega⟩
  · rcases Nat.lt_or_ge k Pj.V.n with l | l
    · rw [(R1.F.kd k l).trans (updN_ne _ _ (by omega))]
      rw [show Q'.V.pd k = Pj.V.pd k from R1.F.pd k l] at h4
      have := MU.c k h1 l i h3 h4
      exact ⟨this.1, by omega⟩
    · exact ndc k l h2 i h3 h4
  · rcases Nat.lt_or_ge k Pj.V.n with l | l
    · rw [show Q'.V.pa k = Pj.V.pa k from R1.F.pa k l]
      obtain ⟨x, hx, h3, h4⟩ := MU.p k h1 l
      exact ⟨x, hx, h3, by omega⟩
    · by_cases e9 : k = Pj.V.n
      · rw [e9]
        exact ⟨P.V.n, R1.rp, Nat.le_refl _, by omega⟩
      · obtain ⟨x, hx, h3, h4, _⟩ := R1.pr k (show (Pj.kid P.V.n (j + 1)).V.n < k from by show Pj.V.n < k; omega) h2
        have h3' : Pj.V.n ≤ x := h3
        exact ⟨x, hx, by omega, by omega⟩

theorem rn_s (f : Nat) : wp_X2_readsNode (f + 1) = wo_X2_readsNode (wp_X2_readsNode f) := rfl
theorem g_readsNode {oth : Nat} : ∀ f, SpN lo q o jn tpa tp n L A g oth f (wp_X2_readsNode f) (pNd tp n A oth f)
  | 0 => by
    intro h t need dp pa pl P D r Pp X C er hdp h13
    omega
  | f + 1 => by
    intro h t need dp pa pl P D r Pp X C er hdp h13 h40 hneed hc hs h1 h0
    have W := C.B.W
    have le0 := C.K.le
    have nt : nN n t := ⟨le0, C.K.T.l2⟩
    have far : t.fr + 1 ≤ eE n (fun x : PT × Tk => x.2) r := eE_ge1 le0 (fun b hb => (pNd_g (f + 1) need dp pa pl P t C.K.it nt b (er.trans hb)).1)
    generalize hEE : eE n (fun x : PT × Tk => x.2) r = E at *
    refine ⟨64 * (E - t.fr), 1024 * (E - t.fr), ⟨hc, hs⟩, ?_⟩
    dsimp only
    rw [rn_s]
    unfold wo_X2_readsNode
    refine ⟨nn_of rfl C.K.R.k, ?_⟩
    rw [show (h.srm (64 * (E - t.fr)) (1024 * (E - t.fr))).fr 313 q = some o from C.K.R.u]
    refine ⟨C.K.R.B.nn, ?_⟩
    rw [adr_some, show (h.srm (64 * (E - t.fr)) (1024 * (E - t.fr))).fr 103 o = some g from C.gg]
    unfold pNd at er
    have thr : ∀ {c1 : HC} {e : Fl} {u v : Nat}, Fr (WN lo q) h.c c1 → r = .error e → ∀ x (h' : AH), Fr (WN lo q) c1 h'.c → ThR h'.c x e → ∀ h10, h10 = h'.srm u v → X x h10 := by
      intro c1 e u v F1 he x h' F' T h10 e10
      have c10 : h10.c = h'.c := by rw [e10]; rfl
      exact h0 _ he x h10 (by rw [c10]; exact F1.trans F') (by rw [c10]; exact T)
    refine g_prodTold (h := h.srm (64 * (E - t.fr)) (1024 * (E - t.fr))) C.K C.B.N (by show 2 ≤ 64 * (E - t.fr); omega) (by show 16 ≤ 1024 * (E - t.fr); omega) (r := if isNm tp t then (match fdN A.pn A.g.nP (wrd tp t) with | none => .error (bad t 3) | some p => .ok p) else .error (bad t 2)) rfl ?_ ?_
    rotate_left
    · intro e he x h' F' T
      have he' : r = .error e := by
        rw [← er]
        by_cases hn : isNm tp t = true
        · rw [if_pos hn] at he ⊢
          cases hf : fdN A.pn A.g.nP (wrd tp t) with
          | none => rw [hf] at he; exact congrArg _ (by simpa using he)
          | some p => rw [hf] at he; exact absurd he (by simp)
        · rw [if_neg hn] at he ⊢
          exact congrArg _ (by simpa using he)
      exact thr (Fr.refl h.c) he' x h' (Fr.wn F') T
    intro p _ hn hf h5 F5 K5 rc5 rs5
    rw [if_pos hn, hf] at er
    dsimp only at er
    have hp := (fdN_some.1 hf).1
    have F5' : Fr (WG lo q) h.c h5.c := F5
    have C5 := C.go F5' K5
    have rc5' : h5.rc = 64 * (E - t.fr) - 2 := rc5
    have rs5' : h5.rs = 1024 * (E - t.fr) - 16 := rs5
    have P5 := C5.B.S.pr p hp
    refine ⟨nn_of rfl K5.R.k, ?_⟩
    rw [show h5.fi 311 q = I P.V.n from C5.f]
    have k2 := isNm_kd hn
    have w6 : r = .error (bad t 6) → cl h5 fun mc ms => wp_X2_wrong q 6 (h5.srm mc ms) fun r' h11 => ∀ h12, h12 = h11.srm (h5.rc - mc) (h5.rs - ms) → nn h12 r' 5 ∧ ∀ h10, h10 = h12.srm (h.rc - 64 * (E - t.fr)) (h.rs - 1024 * (E - t.fr)) → X (adr r') h10 := by
      intro he
      refine g_wrong K5 (k := 6) (by decide) (by rfl) (by omega) (by omega) (X := fun x h12 => ∀ h10, h10 = h12.srm (h.rc - 64 * (E - t.fr)) (h.rs - 1024 * (E - t.fr)) → X x h10) ?_
      intro x h' F' T' h10 e10
      have c10 : h10.c = h'.c := by rw [e10]; rfl
      rw [thK_nm (by decide) hn] at T'
      exact h0 _ he x h10 (by rw [c10]; exact F5'.wn.trans F'.wn0) (by rw [c10]; exact T')
    by_cases h40' : oth + P.V.n = 40
    · rw [if_pos (.inl h40')] at er
      refine brT ?_ (w6 er.symm)
      rw [I_add]
      show I (P.V.n + oth) = I 40
      rw [Nat.add_comm, h40']
    refine brF ?_ ?_
    · rw [I_add]
      intro hh
      have := (I_eq (by omega) (by decide)).1 (show I (P.V.n + oth) = I 40 from hh)
      omega
    by_cases h12 : dp = 12
    · rw [if_pos (.inr (by omega))] at er
      exact brT (by rw [h12]; rfl) (w6 er.symm)
    rw [if_neg (by rintro (e | e) <;> omega)] at er
    refine brF (fun hh => h12 ((I_eq (by omega) (by decide)).1 (show I dp = I 12 from hh))) ?_
    have tail : pKs tp n A p P.V.n dp (pNd tp n A oth f) (A.g.kn p) 0 (P.add p (if (nxt tp n t).kd = 3 then (nxt tp n t).nu else 0) pa pl dp) (if (nxt tp n t).kd = 3 then nxt tp n (nxt tp n t) else nxt tp n t) = r → rnT (wp_X2_readsNode f) q (some (L.pa p)) (I dp) (I oth) h5 (fun r' h3 => ∀ h4, h4 = h3.srm (h.rc - 64 * (E - t.fr)) (h.rs - 1024 * (E - t.fr)) → Pp r' h4) (fun q8 h9 => ∀ h10, h10 = h9.srm (h.rc - 64 * (E - t.fr)) (h.rs - 1024 * (E - t.fr)) → X q8 h10) := by
      intro er'
      refine g_rnT (D := D) (g_readsNode f) C5 hp hn (by omega) (by omega) (by omega) er' (by rw [hEE]; omega) (by rw [hEE]; omega) ?_ ?_
      · intro Q' t' eo h' D' F' C' T' S' h4 e4
        have c4 : h4.c = h'.c := by rw [e4]; rfl
        have eE9 : E = t'.fr := by rw [← hEE, eo]; rfl
        have z5 : h.c.sz ≤ h5.c.sz := F5'.sz
        have z5' : h5.c.sz = h5.sz := rfl
        have z' : h.c.sz = h.sz := rfl
        refine h1 Q' t' eo h4 D' (by rw [c4]; exact F5'.wn.trans F') (by rw [c4]; exact C') T' ?_ (by rw [e4, eE9]; rfl) (by rw [e4, eE9]; rfl)
        rw [c4]
        exact ⟨S'.nd, S'.lk, S'.rt, fun k a b => by have := S'.z k a b; omega, S'.ij⟩
      · intro e he x h' F' T'
        exact thr F5'.wn he x h' F' T'
    cases need with
    | none =>
      rw [if_neg (fun hh => hh.1 rfl)] at er
      refine brT rfl ?_
      rw [← (show h5.fi 311 q = I P.V.n from C5.f)]
      exact tail er
    | some s =>
      have hs9 := hneed s rfl
      refine brF (by simp) ⟨nn_of rfl P5.k, ?_⟩
      rw [adr_some, show h5.fr 701 (L.pa p) = some (L.ql p) from P5.sf]
      refine ⟨nn_of rfl P5.sl.k, ?_⟩
      rw [adr_some]
      refine px_sym (h := h5.srm 0 0) P5 (k := 0) (Nat.zero_le _) (pu ?_)
      have hsy := W.sy p 0 hp (Nat.zero_le _)
      by_cases es : A.g.sy p 0 = s
      · rw [if_neg (fun hh => hh.2 (by rw [es]))] at er
        exact brT (by rw [es]; rfl) ⟨nn_of rfl K5.R.k, tail er⟩
      · rw [if_pos ⟨by simp, fun hh => es (by simpa using hh.symm)⟩] at er
        refine brF (fun hh => es (C5.B.gd.sa _ _ hsy hs9 (by simpa using hh))) ⟨nn_of rfl K5.R.k, ?_⟩
        refine g_wrong K5 (k := 7) (by decide) (by rfl) (by omega) (by omega) (X := fun x h12 => ∀ h10, h10 = h12.srm (h.rc - 64 * (E - t.fr)) (h.rs - 1024 * (E - t.fr)) → X x h10) ?_
        intro x h' F' T' h10 e10
        have c10 : h10.c = h'.c := by rw [e10]; rfl
        rw [thK_nm (by decide) hn] at T'
        exact h0 _ er.symm x h10 (by rw [c10]; exact F5'.wn.trans F'.wn0) (by rw [c10]; exact T')
end
