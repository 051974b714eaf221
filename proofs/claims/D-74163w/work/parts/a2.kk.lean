/-! plain: kk -/
set_option maxRecDepth 100000
section
variable {h : AH} {lo q o jn tpa : Nat} {tp : Nat → Nat} {n : Nat} {t : Tk} {L L' : GA} {A A' : PG} {ow ow' : Nat → Nat} {z0 g : Nat}

/-- throwing within a method that took its room. -/
theorem thr_in {U : AH} {c0 : HC} {t1 : Tk} {kk : Nat} {k' : Int32} {e : Fl} {u v : Nat} {X : Nat → AH → Prop} (FU : Fr (WG lo q) c0 U.c) (KU : RdK U.c lo q o jn tpa tp n t1) (hkk : kk < 10) (ek : k' = I kk) (et : thK t1 kk = e) (u1 : 1 ≤ U.rc) (u2 : 8 ≤ U.rs) (hX : ∀ x h', Fr (WG lo q) c0 h'.c → ThR h'.c x e → X x h') :
    cl U fun mc ms => wp_X2_wrong q k' (U.srm mc ms) fun r' h11 => ∀ h12, h12 = h11.srm (U.rc - mc) (U.rs - ms) → nn h12 r' 5 ∧ ∀ h10, h10 = h12.srm u v → X (adr r') h10 := by
  refine g_wrong KU hkk ek u1 u2 (X := fun x h12 => ∀ h10, h10 = h12.srm u v → X x h10) ?_
  intro x h' F' T' h10 e10
  have c10 : h10.c = h'.c := by rw [e10]; rfl
  rw [et] at T'
  exact hX x h10 (by rw [c10]; exact FU.trans' F' (fun _ _ _ hh => hh.elim)) (by rw [c10]; exact T')
theorem thr_out {c0 : HC} {e : Fl} {u v : Nat} {X : Nat → AH → Prop} {h1 : HC} (F1 : Fr (WG lo q) c0 h1) (hX : ∀ x h', Fr (WG lo q) c0 h'.c → ThR h'.c x e → X x h') : ∀ x (h' : AH), Fr (WG lo q) h1 h'.c → ThR h'.c x e → ∀ h10, h10 = h'.srm u v → X x h10 := by
  intro x h' F T h10 e10
  have c10 : h10.c = h'.c := by rw [e10]; rfl
  exact hX x h10 (by rw [c10]; exact F1.trans F) (by rw [c10]; exact T)
theorem pKd_n : ∀ {f : Nat} {t : Tk} {ks : Nat → Nat} {c : Nat} {b : (Nat → Nat) × Nat × Tk}, t.fr ≤ n → t.to ≤ n → pKd tp n A f t ks c = .ok b → b.2.2.fr ≤ n
  | 0, _, _, _, _, _, _, h => by
    have h' : (Except.error _ : Except Fl _) = .ok _ := h
    exact absurd h' (by simp)
  | f + 1, t, ks, c, b, h1, h2, h => by
    unfold pKd at h
    by_cases hn : isNm tp t = true
    · rw [if_pos hn] at h
      cases hf : fdN A.sn A.g.nS (wrd tp t) with
      | none => rw [hf] at h; exact absurd h (by simp)
      | some s =>
        rw [hf] at h
        dsimp only at h
        by_cases h3 : c = 3
        · rw [if_pos h3] at h; exact absurd h (by simp)
        · rw [if_neg h3] at h
          exact pKd_n (nxt_n h2).1 (nxt_n h2).2 h
    · rw [if_neg hn] at h
      have h' : (ks, c, t) = b := by simpa using h
      rw [← h']; exact h1

/-- a production is read. -/
theorem g_readsProduction (K : RdK h.c lo q o jn tpa tp n t) (B : GB h.c L A ow z0 g) (hg : h.fr 310 q = some g) (hz : z0 ≤ h.sz) (hq : q < z0) (hw : isW tp t 1 = true) {r : Except Fl (PG × Tk)} (er : pPr tp n A t = r)
    (hc : 64 * (eE n (fun x => x.2) r - t.fr) ≤ h.rc) (hs : 1024 * (eE n (fun x => x.2) r - t.fr) ≤ h.rs) {P : AH → Prop} {X : Nat → AH → Prop}
    (h1 : ∀ A' t', r = .ok (A', t') → ∀ h' L' ow', Fr (WGz lo q z0) h.c h'.c → RdK h'.c lo q o jn tpa tp n t' → GB h'.c L' A' ow' z0 g → h'.rc = h.rc - 64 * (t'.fr - t.fr) → h'.rs = h.rs - 1024 * (t'.fr - t.fr) → P h')
    (h0 : ∀ e, r = .error e → ∀ x h', Fr (WG lo q) h.c h'.c → ThR h'.c x e → X x h') :
    cl h fun mc ms => wp_X2_readsProduction q (h.srm mc ms) (fun h3 => ∀ h4, h4 = h3.srm (h.rc - mc) (h.rs - ms) → P h4) (fun q8 h9 => ∀ h10, h10 = h9.srm (h.rc - mc) (h.rs - ms) → X q8 h10) := by
  generalize hE : eE n (fun x => x.2) r = E at *
  refine ⟨64 * (E - t.fr), 1024 * (E - t.fr), ⟨hc, hs⟩, ?_⟩
  dsimp only
  have ql : q < h.sz := K.R.l
  have le0 := K.le
  have up1 := K.it.up (w_ne hw)
  have n1 := nxt_le K
  have h12 := B.W.nP
  have h8 := B.W.nS
  have tk2 : t.kd = 2 := (isW_iff.1 hw).1
  have far : t.fr + 4 ≤ E ∨ E = n + 1 := by
    cases hr : r with
    | error x => right; rw [← hE, hr]; rfl
    | ok b =>
      left
      have h9 := (pPr_fr (A' := b.1) (t' := b.2) K.it (w_ne hw) (er.trans hr)).1
      rw [← hE, eE_ok hr]; exact h9
  have farp : t.fr + 1 ≤ E := by omega
  generalize hM : 64 * (E - t.fr) = M at *
  generalize hS : 1024 * (E - t.fr) = S at *
  have M64 : 64 ≤ M ∧ 1024 ≤ S := by omega
  unfold pPr at er
  unfold wp_X2_readsProduction
  refine ⟨nn_of rfl K.R.k, ?_⟩
  rw [show (h.srm M S).fr 310 q = some g from hg]
  refine ⟨nn_of rfl B.k, ?_⟩
  rw [adr_some, show (h.srm M S).fr 401 g = some L.pl from B.p1]
  refine ⟨nn_of rfl B.p2.k, ?_⟩
  rw [adr_some]
  refine pc_size (h := (h.srm M S).srm 0 0) B.p2 ?_
  intro h6 e6
  have e6' : h6 = h.srm M S := by rw [e6]; rfl
  have c6 : h6.c = h.c := by rw [e6']; rfl
  have rc6 : h6.rc = M := by rw [e6']; rfl
  have rs6 : h6.rs = S := by rw [e6']; rfl
  have K6 : RdK h6.c lo q o jn tpa tp n t := by rw [c6]; exact K
  clear e6 e6'
  by_cases e8 : A.g.nP = 12
  · rw [if_pos e8] at er
    refine brT (by rw [e8]; rfl) ⟨nn_of rfl K6.R.k, ?_⟩
    exact thr_in (c0 := h.c) (by rw [c6]; exact Fr.refl _) K6 (kk := 6) (by decide) (by rfl) (thK_bad (by decide) (by omega)) (by omega) (by omega) (h0 _ er.symm)
  rw [if_neg e8] at er
  refine brF (fun hh => e8 ((I_eq (by omega) (by decide)).1 (show I A.g.nP = I 12 from hh))) ⟨nn_of rfl K6.R.k, ?_⟩
  refine g_reads K6 (by omega) (by omega) ?_
  intro h11 F11 K11 rc11 rs11
  have q11 : h11.rc + 5 = M ∧ h11.rs + 68 = S := by omega
  clear rc11 rs11 rc6 rs6
  have F11' : Fr (WG lo q) h.c h11.c := by rw [← c6]; exact F11
  refine ⟨nn_of rfl K11.R.k, ?_⟩
  refine g_needsName K11 (by omega) (by omega) ?_ ?_
  rotate_left
  · intro hn
    rw [if_neg (by rw [hn]; decide)] at er
    exact thr_out F11' (h0 _ er.symm)
  intro hn h18 F18 K18 rc18 rs18
  have q18 : h18.rc + 6 = M ∧ h18.rs + 76 = S := by omega
  clear rc18 rs18 q11
  rw [if_pos hn] at er
  have F18' := F11'.trans' F18 (fun _ _ _ hh => hh)
  have B18 := B.go F18'
  have hg18 : h18.fr 310 q = some g := (F18'.fr 310 q K.R.l (by unfold WG; omega)).trans hg
  obtain ⟨wa, wv, w1, w2, w3⟩ := K18.T.w0 (by have := isNm_kd hn; omega)
  refine ⟨nn_of rfl K18.R.k, ?_⟩
  rw [hg18, show h18.fr 305 q = some wa from w1]
  refine ⟨nn_of rfl B18.k, ?_⟩
  rw [adr_some]
  refine px_named (h := h18.srm 0 0) B18.pn w2 (pu ?_)
  have up2 := K.it.nx.up (nm_ne hn)
  have n2 := nxt_le K11
  cases hf : fdN A.pn A.g.nP (wrd tp (nxt tp n t)) with
  | some s =>
    rw [hf] at er
    refine brF (by simp) ⟨nn_of rfl K18.R.k, ?_⟩
    exact thr_in F18' K18 (kk := 4) (by decide) (by rfl) (thK_nm (by decide) hn) (by omega) (by omega) (h0 _ er.symm)
  | none =>
  rw [hf] at er
  rw [if_neg (by decide)] at er
  refine brT rfl ⟨⟨by omega, by omega⟩, ?_⟩
  intro h31 e31
  have F31 : Fr W0 h18.c h31.c := by rw [e31]; exact (Fr.refl _).new _ _ _
  have K31 := K18.keep0 F31
  have z31 : h31.sz = h18.sz + 1 := by rw [e31]; rfl
  have k31 : (h31.kd h18.sz).1 = 7 := by rw [e31, new_kd, if_pos rfl]
  have r31 : h31.rc = h18.rc - 1 ∧ h31.rs = h18.rs - 7 := by rw [e31]; exact ⟨rfl, rfl⟩
  have q31 : h31.rc + 7 = M ∧ h31.rs + 83 = S := by omega
  clear r31 q18
  have w1' : h31.fr 305 q = some wa := (F31.fr 305 q K18.R.l id).trans w1
  have w2' : StR h31.c wa wv (wrd tp (nxt tp n t)) := w2.keep F31 id id id
  have sz18 : h.c.sz ≤ h18.c.sz := F18'.sz
  have hcs : h.c.sz = h.sz := rfl
  have h18s : h18.c.sz = h18.sz := rfl
  refine ⟨nn_of rfl K31.R.k, ?_⟩
  rw [w1']
  refine ⟨6, 205, ⟨by omega, by omega⟩, ?_⟩
  refine px_prodInit (h := h31.srm 6 205) (z := h.c.sz) k31 (by show h18.sz < h31.sz; omega) w2' (Nat.le_refl _) (Nat.le_refl _) (by omega) ?_
  intro h34 pql qd0 qm0 pr pk po pp F34 N34 h35 e35
  have c35 : h35.c = h34.c := by rw [e35]; rfl
  have F35 : Fr (fun f b => b = h18.sz ∧ 700 ≤ f ∧ f ≤ 705) h31.c h35.c := by rw [c35]; exact F34
  have N35 : NwP h35.c h18.sz pql qd0 qm0 0 (fun _ => 0) pr pk po pp (wrd tp (nxt tp n t)) h.c.sz := by rw [c35]; exact N34
  have r35 : h35.rc = h31.rc - 6 ∧ h35.rs = h31.rs - 205 := by rw [e35]; exact ⟨rfl, rfl⟩
  have q35 : h35.rc + 13 = M ∧ h35.rs + 288 = S := by omega
  clear r35 q31
  have lb : h31.c.lo ≤ h18.sz := by
    have h9 := K31.R.b
    have h7 := K18.R.l
    omega
  have K35 : RdK h35.c lo q o jn tpa tp n (nxt tp n t) := K31.keep F35 (fun f b hh => ⟨by omega, .inr (.inl (by omega))⟩)
  have FF35 : Fr (WG lo q) h.c h35.c := (F18'.trans' F31 (fun _ _ _ hh => hh.elim)).trans' F35 (fun f b hb hh => by omega)
  refine ⟨nn_of rfl K35.R.k, ?_⟩
  refine g_reads K35 (by omega) (by omega) ?_
  intro h42 F42 K42 rc42 rs42
  have q42 : h42.rc + 18 = M ∧ h42.rs + 356 = S := by omega
  clear rc42 rs42 q35
  have F42' := FF35.trans F42
  have N42 := N35.go F42
  have n3 := nxt_le K42
  refine ⟨nn_of rfl K42.R.k, ?_⟩
  have hb : isB tp n (nxt tp n (nxt tp n t)) (ksb 11) ↔ isSg (nxt tp n (nxt tp n t)) 58 = true := isB_s K42.T.kk (by decide)
  refine g_must K42 (by decide) hb (by omega) (by omega) ?_ ?_
  rotate_left
  · intro hsg
    rw [if_neg (by rw [hsg]; decide)] at er
    intro x h' F' T'
    exact thr_out F42' (h0 _ er.symm) x h' (F'.mono (fun _ _ _ hh => hh.elim)) T'
  intro hsg h49 F49 K49 rc49 rs49
  have q49 : h49.rc + 23 = M ∧ h49.rs + 424 = S := by omega
  clear rc49 rs49 q42
  rw [if_pos hsg] at er
  have up3 := K42.it.up (sg_ne hsg)
  have F49' := F42'.trans F49
  have N49 := N42.go F49
  have B49 := B.go F49'
  have hg49 : h49.fr 310 q = some g := (F49'.fr 310 q K.R.l (by unfold WG; omega)).trans hg
  generalize ht3 : nxt tp n (nxt tp n (nxt tp n t)) = t3 at *
  unfold pPr3 at er
  refine ⟨nn_of rfl N49.k, nn_of rfl K49.R.k, ?_⟩
  rw [show h49.fr 701 h18.sz = some pql from N49.sf]
  refine g_symTold K49 B49 hg49 (by omega) (by omega) ?_ ?_ ?_
  rotate_left
  · intro hn3 hf3
    rw [if_pos hn3, hf3] at er
    exact thr_out F49' (h0 _ er.symm)
  · intro hn3
    rw [if_neg (by rw [hn3]; decide)] at er
    exact thr_out F49' (h0 _ er.symm)
  intro s0 hn3 hf3 h60 F60 K60 rc60 rs60
  have q60 : h60.rc + 25 = M ∧ h60.rs + 440 = S := by omega
  clear rc60 rs60 q49
  rw [if_pos hn3, hf3] at er
  dsimp only at er
  have hs0 := (fdN_some.1 hf3).1
  have F60' := F49'.trans F60
  have N60 := N49.go F60
  have B60 := B.go F60'
  have up4 := K60.it.up (nm_ne hn3)
  have n4 := nxt_le K60
  -- one symbol more
  have addS : ∀ {U : AH} {t1 : Tk} {qd qm m : Nat} {x : Nat → Nat} {s : Nat} {R : AH → Prop}, Fr (WG lo q) h.c U.c → RdK U.c lo q o jn tpa tp n t1 → NwP U.c h18.sz pql qd qm m x pr pk po pp (wrd tp (nxt tp n t)) h.c.sz → m ≤ 4 → s < A.g.nS → (∀ i, i < m → ∃ s', s' < A.g.nS ∧ x i = L.sa s') → 1 ≤ U.rc → 18 ≤ U.rs →
      (∀ V qd' qm', Fr (WG lo q) h.c V.c → RdK V.c lo q o jn tpa tp n t1 → NwP V.c h18.sz pql qd' qm' (m + 1) (updN x m (L.sa s)) pr pk po pp (wrd tp (nxt tp n t)) h.c.sz → V.rc = U.rc - 1 → U.rs - 18 ≤ V.rs → R V) →
      cl U fun mc ms => wp_J12_add pql (some (L.sa s)) (U.srm mc ms) fun _ h33 => ∀ h34, h34 = h33.srm (U.rc - mc) (U.rs - ms) → R h34 := by
    intro U t1 qd qm m x s R FU KU NU hm4 hsS hx u1 u2 hR
    have BU := B.go FU
    have gk := grw_le (show m ≤ 12 by omega)
    refine g_add NU.ls (fun i hi => ?_) NU.m1 (by omega) (BU.sy s hsS).R.l (by show stk 44 (U.kd (L.sa s)).1 = true; rw [show (U.kd (L.sa s)).1 = 6 from (BU.sy s hsS).R.k]; rfl) u1 (by omega) ?_
    · obtain ⟨s', hs', e⟩ := hx i hi
      rw [e]
      exact ⟨(BU.sy s' hs').R.l, by rw [(BU.sy s' hs').R.k]; rfl⟩
    intro V d' m' FV LV hmV hdV cV sV
    have zz := NU.z
    have szU : h.c.sz ≤ U.c.sz := FU.sz
    have dk : (U.c.kd qd).1 = 44 := by rw [NU.ls.dk]
    have FF : Fr (WG lo q) h.c V.c := FU.trans' FV (fun f b hb hh => by rcases hh with ⟨e, _⟩ | ⟨_, e⟩ <;> omega)
    have lU : U.c.lo ≤ h.c.sz := by have := KU.R.b; omega
    have KV : RdK V.c lo q o jn tpa tp n t1 := by
      refine KU.keep FV (fun f b hh => ?_)
      rcases hh with ⟨e, hf'⟩ | ⟨e1, e2⟩
      · exact ⟨by omega, .inr (.inl (by omega))⟩
      · exact ⟨by omega, .inr (.inr ⟨e1, by rw [e2, dk]; decide, by rw [e2, dk]; decide⟩)⟩
    have nf : ∀ f b, f ≠ 0 → f < 2300 ∨ 2302 < f → ¬ WL pql qd f b := by
      intro f b h1 h2 hw
      rcases hw with ⟨_, e⟩ | ⟨e, _⟩ <;> omega
    have nb : ∀ v, (U.c.kd v).1 ≠ 44 → ¬ WL pql qd 0 v := by
      rintro v hv (⟨_, e⟩ | ⟨_, e⟩)
      · omega
      · rw [e] at hv; exact hv dk
    obtain ⟨wa', wv', y1, y2⟩ := NU.w
    refine hR V d' m' FF KV ⟨by rw [FV.kd _ NU.l]; exact NU.k, Nat.lt_of_lt_of_le NU.l FV.sz, by rw [FV.fr _ _ NU.l (nf _ _ (by decide) (by decide))]; exact NU.sf, LV, hmV, NU.r.keep NU.l FV (nf _ _ (by decide) (by decide)) (nb _ (by rw [NU.r.kd]; decide)), NU.fk.keep NU.l FV (nf _ _ (by decide) (by decide)) (nb _ (by rw [NU.fk.kd]; decide)), NU.fo.keep NU.l FV (nf _ _ (by decide) (by decide)) (nb _ (by rw [NU.fo.kd]; decide)), NU.s.keep NU.l FV (nf _ _ (by decide) (by decide)) (nb _ (by rw [NU.s.kd]; decide)), ⟨wa', wv', by rw [FV.fr _ _ NU.l (nf _ _ (by decide) (by decide))]; exact y1, y2.keep FV (nf _ _ (by decide) (by decide)) (nf _ _ (by decide) (by decide)) (nb _ (by rw [y2.vk]; show (41 : Nat) ≠ 44; decide))⟩, ⟨zz.1, zz.2.1, ?_, zz.2.2.2⟩⟩ cV (by omega)
    rcases hdV with e | e
    · omega
    · have h9 : U.c.sz = U.sz := rfl
      omega
  refine ⟨nn_of rfl N60.ls.k, ?_⟩
  rw [adr_some]
  refine addS F60' K60 N60 (by decide) hs0 (fun i hi => absurd hi (Nat.not_lt_zero _)) (by omega) (by omega) ?_
  intro h70 qd1 qm1 F70 K70 N70 rc70 rs70
  have q70 : h70.rc + 26 = M ∧ S ≤ h70.rs + 458 := by omega
  clear rc70 rs70 q60
  refine ⟨nn_of rfl K70.R.k, ?_⟩
  refine g_reads K70 (by omega) (by omega) ?_
  intro h77 F77 K77 rc77 rs77
  have q77 : h77.rc + 31 = M ∧ S ≤ h77.rs + 526 := by omega
  clear rc77 rs77 q70
  have F77' := F70.trans F77
  have N77 := N70.go F77
  generalize hr1 : pKd tp n A 5 (nxt tp n t3) (fun _ => s0) 0 = r1 at er
  have E1 : eE n (fun x => x.2.2) r1 = E ∧ ∀ b, r1 = .ok b → b.2.2.fr = E := by
    cases r1 with
    | error x =>
      have e9 : E = n + 1 := by rw [← hE, ← er]; rfl
      exact ⟨by rw [eE_er rfl]; exact e9.symm, fun b hb => absurd hb (by simp)⟩
    | ok b =>
      have e9 : E = b.2.2.fr := by rw [← hE, ← er]; rfl
      exact ⟨by rw [eE_ok rfl]; exact e9.symm, fun b' hb => by
        have e8 : b = b' := by simpa using hb
        rw [← e8]; exact e9.symm⟩
  have bud : 64 * (E - (nxt tp n t3).fr) + 100 ≤ h77.rc ∧ 1024 * (E - (nxt tp n t3).fr) + 1000 ≤ h77.rs := by
    have i1 : (nxt tp n t3).fr ≤ E := by
      cases hr : r1 with
      | error x => have := E1.1; rw [hr, eE_er rfl] at this; omega
      | ok b =>
        have a1 := (pKd_fr K77.it (hr1.trans hr)).1
        have := E1.2 b hr
        omega
    constructor <;> omega
  refine ⟨fun f _ U => ∃ t1 ks c qd qm x, pKd tp n A f t1 ks c = r1 ∧ f + c = 5 ∧ c ≤ 3 ∧ Fr (WG lo q) h.c U.c ∧ RdK U.c lo q o jn tpa tp n t1 ∧ NwP U.c h18.sz pql qd qm (c + 1) x pr pk po pp (wrd tp (nxt tp n t)) h.c.sz ∧ (∀ i, i < c + 1 → x i = L.sa (ks i) ∧ ks i < A.g.nS) ∧ 64 * (E - t1.fr) + 100 ≤ U.rc ∧ 1024 * (E - t1.fr) + 1000 ≤ U.rs, ⟨5, nxt tp n t3, fun _ => s0, 0, qd1, qm1, _, hr1, rfl, by decide, F77', K77, N77, fun i hi => ?_, bud.1, bud.2⟩, ?_⟩
  · have e0 : i = 0 := by omega
    rw [e0, updN_same]; exact ⟨rfl, hs0⟩
  rintro f _ U ⟨t1, ks, c, qd, qm, x, er1, hf, hc3, FU, KU, NU, hx, rcU, rsU⟩
  obtain ⟨f', rfl⟩ : ∃ f', f = f' + 1 := ⟨f - 1, by omega⟩
  have leU := KU.le
  have t1E : t1.fr ≤ E := by
    cases hr : r1 with
    | error y => have := E1.1; rw [hr, eE_er rfl] at this; omega
    | ok b =>
      have a1 := (pKd_fr KU.it (er1.trans hr)).1
      have := E1.2 b hr
      omega
  unfold pKd at er1
  refine ⟨nn_of rfl KU.R.k, ?_⟩
  refine g_isName KU ?_
  intro h86 F86 K86 rc86 rs86
  have F86' := FU.trans F86
  have N86 := NU.go F86
  have B86 := B.go F86'
  have hg86 : h86.fr 310 q = some g := (F86'.fr 310 q K.R.l (by unfold WG; omega)).trans hg
  cases hn5 : isNm tp t1 with
  | false =>
    rw [if_neg (by rw [hn5]; decide)] at er1
    rw [← er1] at er
    dsimp only at er
    have eE9 : E = t1.fr := (E1.2 _ er1.symm).symm
    refine brT rfl ⟨nn_of rfl K86.R.k, ?_⟩
    rw [hg86]
    refine ⟨nn_of rfl B86.k, ?_⟩
    rw [adr_some, show h86.fr 401 g = some L.pl from B86.p1]
    refine ⟨nn_of rfl B86.p2.k, ?_⟩
    rw [adr_some]
    have gk := grw_le (show A.g.nP ≤ 12 by omega)
    refine g_add B86.p2 (fun i hi => ⟨(B86.pr i hi).R.l, by rw [(B86.pr i hi).R.k]; rfl⟩) B86.p3 (by omega) N86.l (by show stk 44 (h86.kd h18.sz).1 = true; rw [show (h86.kd h18.sz).1 = 7 from N86.k]; rfl) (by omega) (by omega) ?_
    intro h101 pd pm F101 L101 hm hd _ _ h4 e4
    have c4 : h4.c = h101.c := by rw [e4]; rfl
    have N86' : NwP h86.c h18.sz pql qd qm (c + 1) (fun i => L.sa (ks i)) pr pk po pp (wrd tp (nxt tp n t)) h.c.sz := ⟨N86.k, N86.l, N86.sf, N86.ls.congr (fun i hi => (hx i hi).1.symm), N86.m1, N86.r, N86.fk, N86.fo, N86.s, N86.w, N86.z⟩
    have GB' := GB.addP B hz F86' N86' hc3 (fun i hi => (hx i (by omega)).2) (by omega) F101 L101 hm (by rcases hd with e | e; exact .inl e; exact .inr e)
    have pdk : (h86.c.kd L.pd).1 = 44 := by rw [B86.p2.dk]
    have pdz := B.z L.pd (by rw [B.o4]; unfold tg; omega)
    have plz := B.z L.pl (by rw [B.o3]; unfold tg; omega)
    have lz : h86.c.lo ≤ z0 := by
      have := K86.R.b
      omega
    have K101 : RdK h101.c lo q o jn tpa tp n t1 := by
      refine K86.keep F101 (fun f b hh => ?_)
      rcases hh with ⟨e, hf⟩ | ⟨e1, e2⟩
      · exact ⟨by omega, .inr (.inl (by omega))⟩
      · exact ⟨by omega, .inr (.inr ⟨e1, by rw [e2, pdk]; decide, by rw [e2, pdk]; decide⟩)⟩
    have FF : Fr (WGz lo q z0) h.c h101.c := (F86'.wgz (z0 := z0)).trans' F101 (fun f b hb hh => by
      rcases hh with ⟨e, _⟩ | ⟨_, e⟩
      · exact .inr (by omega)
      · exact .inr (by omega))
    exact h1 _ _ er.symm h4 _ _ (by rw [c4]; exact FF) (by rw [c4]; exact K101) (by rw [c4]; exact GB') (by rw [e4, ← eE9, hM]; rfl) (by rw [e4, ← eE9, hS]; rfl)
  | true =>
    rw [if_pos hn5] at er1
    refine brF (by decide) ⟨nn_of rfl K86.R.k, ?_⟩
    refine g_symTold K86 B86 hg86 (by omega) (by omega) ?_ ?_ ?_
    rotate_left
    · intro _ hf5
      rw [hf5] at er1
      rw [← er1] at er
      exact thr_out F86' (h0 _ er.symm)
    · intro hn9
      rw [hn5] at hn9
      exact absurd hn9 (by decide)
    intro s5 _ hf5 h103 F103 K103 rc103 rs103
    rw [hf5] at er1
    dsimp only at er1
    have hs5 := (fdN_some.1 hf5).1
    have F103' := F86'.trans F103
    have N103 := N86.go F103
    have up5 := K103.it.up (nm_ne hn5)
    refine ⟨nn_of rfl N103.k, ?_⟩
    refine px_childrenN (h := h103.srm 0 0) N103 (by omega) (pu ?_)
    by_cases hc9 : c = 3
    · rw [if_pos hc9] at er1
      rw [← er1] at er
      refine brT (by rw [hc9]; rfl) ⟨nn_of rfl K103.R.k, ?_⟩
      exact thr_in F103' K103 (kk := 6) (by decide) (by rfl) (thK_nm (by decide) hn5) (by omega) (by omega) (h0 _ er.symm)
    rw [if_neg hc9] at er1
    have t1E' : t1.fr + 1 ≤ E := by
      cases hr : r1 with
      | error y => have := E1.1; rw [hr, eE_er rfl] at this; omega
      | ok b =>
        have a1 := (pKd_fr KU.it.nx (er1.trans hr)).1
        have := E1.2 b hr
        omega
    refine brF (fun hh => hc9 ((I_eq (by omega) (by decide)).1 (show I c = I 3 from hh))) ⟨nn_of rfl N103.k, ?_⟩
    rw [show h103.fr 701 h18.sz = some pql from N103.sf]
    refine ⟨nn_of rfl N103.ls.k, ?_⟩
    rw [adr_some]
    refine addS F103' K103 N103 (by omega) hs5 (fun i hi => ⟨ks i, (hx i hi).2, (hx i hi).1⟩) (by omega) (by omega) ?_
    intro h119 qd2 qm2 F119 K119 N119 rc119 rs119
    refine ⟨nn_of rfl K119.R.k, ?_⟩
    refine g_reads K119 (by omega) (by omega) ?_
    intro h126 F126 K126 rc126 rs126
    refine ⟨f', Nat.lt_succ_self _, nxt tp n t1, updN ks (c + 1) s5, c + 1, qd2, qm2, _, er1, by omega, by omega, F119.trans F126, K126, N119.go F126, fun i hi => ?_, by omega, by omega⟩
    by_cases ei : i = c + 1
    · rw [ei, updN_same, updN_same]; exact ⟨rfl, hs5⟩
    · rw [updN_ne _ _ ei, updN_ne _ _ ei]; exact hx i (by omega)
end
