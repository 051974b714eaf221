/-! plain: ki -/
set_option maxRecDepth 100000
section
variable {h : AH} {lo q o jn tpa : Nat} {tp : Nat → Nat} {n : Nat} {t : Tk} {L L' : GA} {A A' : PG} {ow ow' : Nat → Nat} {z0 g : Nat}

theorem pSd_le {k : Nat} {t t' : Tk} {an an' : Nat → List Nat} {c c' : Nat} (ht : isT tp n t) (h : pSd tp n k t an c = .ok (an', c', t')) : t.fr ≤ t'.fr := (pSd_fr ht h).1
theorem nxt_n {t : Tk} (h : t.to ≤ n) : (nxt tp n t).fr ≤ n ∧ (nxt tp n t).to ≤ n := by
  have h1 := eS_le (tp := tp) h
  have h2 : (nxt tp n t).fr = eS tp n t.to := by
    show (tok tp n t.to).fr = _
    unfold tok; exact tokA_fr _
  refine ⟨by omega, ?_⟩
  show (tok tp n t.to).to ≤ n
  unfold tok
  have h3 := tokA_to (tp := tp) (n := n) (eS tp n t.to)
  by_cases hl : eS tp n t.to < n
  · exact (h3.2 hl).2
  · have e : (tokA tp n (eS tp n t.to)).to = eS tp n t.to := by unfold tokA; rw [if_neg hl]; rfl
    omega
theorem pAt_n : ∀ {f : Nat} {t : Tk} {an an' : Nat → List Nat} {c had c' : Nat} {t' : Tk}, t.to ≤ n → pAt tp n f t an c had = .ok (an', c', t') → t'.fr ≤ n
  | 0, _, _, _, _, _, _, _, _, h => by
    have h' : (Except.error _ : Except Fl _) = .ok _ := h
    exact absurd h' (by simp)
  | f + 1, t, an, an', c, had, c', t', ht, h => by
    unfold pAt at h
    by_cases h1 : isNm tp t = true
    rotate_left
    · rw [if_neg h1] at h; exact absurd h (by simp)
    rw [if_pos h1] at h
    by_cases h2 : (fdN an c (wrd tp t)).isSome = true
    · rw [if_pos h2] at h; exact absurd h (by simp)
    rw [if_neg h2] at h
    by_cases h3 : c - had = 4
    · rw [if_pos h3] at h; exact absurd h (by simp)
    rw [if_neg h3] at h
    by_cases h4 : isNm tp (nxt tp n t) = true
    · rw [if_pos h4] at h
      exact pAt_n (nxt_n ht).2 h
    · rw [if_neg h4] at h
      have h' : (updN an c (wrd tp t), c + 1, nxt tp n t) = (an', c', t') := by simpa using h
      rw [← (Prod.mk.inj (Prod.mk.inj h').2).2]
      exact (nxt_n ht).1
theorem pSd_n {c9 : HC} {k : Nat} {an : Nat → List Nat} {c : Nat} {b : (Nat → List Nat) × Nat × Tk} (K : RdK c9 lo q o jn tpa tp n t) (h : pSd tp n k t an c = .ok b) : b.2.2.fr ≤ n := by
  unfold pSd at h
  by_cases hw : isW tp t k = true
  · rw [if_pos hw] at h
    exact pAt_n (an' := b.1) (c' := b.2.1) (t' := b.2.2) (nxt_n K.T.l2).2 h
  · rw [if_neg hw] at h
    have h' : (an, c, t) = b := by simpa using h
    rw [← h']
    exact K.le
/-- behind in, or out, names are read. -/
theorem g_side {c0 : HC} {a nl si sv k0 : Nat} {w : List Nat} {iv : Int32} {an0 : Nat → List Nat} {nd0 nm0 kk ci : Nat} (hkk : kk < 9) (hci : ci < 24) (eci : ksb ci = kw kk) (hk0 : k0 ≤ 4) (hq : q < c0.sz) (F0 : Fr (WG lo q) c0 h.c) (K0 : RdK h.c lo q o jn tpa tp n t) (N0 : NwS h.c a nl nd0 nm0 si sv k0 an0 w iv c0.sz)
    {r : Except Fl ((Nat → List Nat) × Nat × Tk)} (er : pSd tp n kk t an0 k0 = r) (hc : 64 * (eE n (fun x => x.2.2) r - t.fr) ≤ h.rc) (hs : 1024 * (eE n (fun x => x.2.2) r - t.fr) ≤ h.rs) {P : AH → Prop} {X : Nat → AH → Prop}
    (h1 : ∀ an' k' t', r = .ok (an', k', t') → ∀ h' nd' nm', Fr (WG lo q) c0 h'.c → RdK h'.c lo q o jn tpa tp n t' → NwS h'.c a nl nd' nm' si sv k' an' w iv c0.sz → h.rc - 64 * (t'.fr - t.fr) ≤ h'.rc → h.rs - 1024 * (t'.fr - t.fr) ≤ h'.rs → P h')
    (h0 : ∀ e, r = .error e → ∀ x h', Fr (WG lo q) c0 h'.c → ThR h'.c x e → X x h') :
    cl h fun mc50 ms51 => wp_X2_takes q (sref (h.cs ci)) (h.srm mc50 ms51) fun r47 h48 => ∀ h49, h49 = h48.srm (h.rc - mc50) (h.rs - ms51) →
      xjn (α := Unit) (fun J54 => ((r47 = 0 → J54 () h49) ∧ (¬ r47 = 0 → nn h49 (some q) 3 ∧ cl h49 fun mc60 ms61 => wp_X2_names q (some a) (h49.srm mc60 ms61) (fun h58 => ∀ h59, h59 = h58.srm (h49.rc - mc60) (h49.rs - ms61) → J54 () h59) (fun q63 h64 => ∀ h65, h65 = h64.srm (h49.rc - mc60) (h49.rs - ms61) → X q63 h65)))) (fun _ T67 => P T67) := by
  have hb : isB tp n t (ksb ci) ↔ isW tp t kk = true := by rw [eci]; exact isB_w K0.T.kk hkk
  unfold pSd at er
  have le0 := K0.le
  have big : isW tp t kk = true → (nxt tp n t).fr + 1 ≤ eE n (fun x => x.2.2) r ∧ t.fr + 1 ≤ (nxt tp n t).fr := by
    intro hw
    have up := K0.it.up (w_ne hw)
    refine ⟨?_, up⟩
    rw [if_pos hw] at er
    cases hr : r with
    | error x =>
      rw [eE_er rfl]
      obtain ⟨fr, e⟩ := K0.it.nx
      have h9 : (nxt tp n t).fr ≤ n := by
        show (tok tp n t.to).fr ≤ n
        unfold tok
        rw [tokA_fr]
        exact eS_le K0.T.l2
      omega
    | ok b =>
      rw [eE_ok rfl]
      rw [hr] at er
      exact (pAt_fr (an' := b.1) (c' := b.2.1) (t' := b.2.2) K0.it.nx er).1
  refine g_takes K0 hci hb (fun hw => by have := big hw; omega) (fun hw => by have := big hw; omega) ?_ ?_
  · intro hw
    rw [if_neg (by rw [hw]; decide)] at er
    refine ⟨fun _ U => U = h, brT rfl rfl, ?_⟩
    intro _ U hU
    rw [hU]
    exact h1 _ _ _ er.symm h nd0 nm0 F0 K0 N0 (by omega) (by omega)
  · intro hw h49 F49 K49 c49 s49
    obtain ⟨b1, b2⟩ := big hw
    rw [if_pos hw] at er
    have F' := F0.trans' F49 (fun _ _ _ hh => hh)
    refine ⟨fun _ U => P U, brF (by decide) ⟨nn_of rfl K49.R.k, ?_⟩, fun _ U hU => hU⟩
    refine g_names hk0 hq F' K49 (N0.go F49) er (by omega) (by omega) ?_ h0
    intro an' k' t' e h' nd' nm' F2 K2 N2 c2 s2
    rw [eE_ok e] at hc hs b1
    have b1' : (nxt tp n t).fr + 1 ≤ t'.fr := b1
    refine h1 an' k' t' e h' nd' nm' F2 K2 N2 ?_ ?_
    · rw [c2, c49]
      have : 64 * (t'.fr - t.fr) = 64 * (t'.fr - (nxt tp n t).fr) + 64 * ((nxt tp n t).fr - t.fr) := by omega
      omega
    · rw [s2, s49]
      have : 1024 * (t'.fr - t.fr) = 1024 * (t'.fr - (nxt tp n t).fr) + 1024 * ((nxt tp n t).fr - t.fr) := by omega
      omega

/-- what a line may write. -/
def WGz (lo q z0 : Nat) : Nat → Nat → Prop := fun f a => WG lo q f a ∨ z0 ≤ a
theorem Fr.wgz {c c' : HC} (F : Fr (WG lo q) c c') : Fr (WGz lo q z0) c c' := F.mono (fun _ _ _ hh => .inl hh)

theorem nxt_le {c : HC} (K : RdK c lo q o jn tpa tp n t) : (nxt tp n t).fr ≤ n := by
  show (tok tp n t.to).fr ≤ n
  unfold tok
  rw [tokA_fr]
  exact eS_le K.T.l2

/-- a symbol is read. -/
theorem g_readsSymbol (K : RdK h.c lo q o jn tpa tp n t) (B : GB h.c L A ow z0 g) (hg : h.fr 310 q = some g) (hz : z0 ≤ h.sz) (hq : q < z0) (hw : isW tp t 0 = true) {r : Except Fl (PG × Tk)} (er : pSy tp n A t = r)
    (hc : 64 * (eE n (fun x => x.2) r - t.fr) ≤ h.rc) (hs : 1024 * (eE n (fun x => x.2) r - t.fr) ≤ h.rs) {P : AH → Prop} {X : Nat → AH → Prop}
    (h1 : ∀ A' t', r = .ok (A', t') → ∀ h' L' ow', Fr (WGz lo q z0) h.c h'.c → RdK h'.c lo q o jn tpa tp n t' → GB h'.c L' A' ow' z0 g → h'.rc = h.rc - 64 * (t'.fr - t.fr) → h'.rs = h.rs - 1024 * (t'.fr - t.fr) → P h')
    (h0 : ∀ e, r = .error e → ∀ x h', Fr (WG lo q) h.c h'.c → ThR h'.c x e → X x h') :
    cl h fun mc ms => wp_X2_readsSymbol q (h.srm mc ms) (fun h3 => ∀ h4, h4 = h3.srm (h.rc - mc) (h.rs - ms) → P h4) (fun q8 h9 => ∀ h10, h10 = h9.srm (h.rc - mc) (h.rs - ms) → X q8 h10) := by
  generalize hE : eE n (fun x => x.2) r = E at *
  refine ⟨64 * (E - t.fr), 1024 * (E - t.fr), ⟨hc, hs⟩, ?_⟩
  dsimp only
  have ql : q < h.sz := K.R.l
  have le0 := K.le
  have up1 := K.it.up (w_ne hw)
  have n1 := nxt_le K
  have h8 := B.W.nS
  have tk2 : t.kd = 2 := (isW_iff.1 hw).1
  -- E is far enough
  have far : t.fr + 1 ≤ E := by
    rw [← hE]
    cases hr : r with
    | error x => rw [eE_er rfl]; omega
    | ok b =>
      rw [eE_ok rfl]
      have h9 := er.trans hr
      unfold pSy at h9
      by_cases e8 : A.g.nS = 8
      · rw [if_pos e8] at h9; exact absurd h9 (by simp)
      rw [if_neg e8] at h9
      by_cases hn : isNm tp (nxt tp n t) = true
      rotate_left
      · rw [if_neg hn] at h9; exact absurd h9 (by simp)
      rw [if_pos hn] at h9
      by_cases hf : (fdN A.sn A.g.nS (wrd tp (nxt tp n t))).isSome = true
      · rw [if_pos hf] at h9; exact absurd h9 (by simp)
      rw [if_neg hf] at h9
      have i2 : isT tp n (nxt tp n (nxt tp n t)) := K.it.nx.nx
      cases h3 : pSd tp n 3 (nxt tp n (nxt tp n t)) (fun _ => []) 0 with
      | error x => rw [h3] at h9; exact absurd h9 (by simp)
      | ok b1 =>
        rw [h3] at h9
        dsimp only at h9
        have a1 := pSd_fr i2 h3
        cases h4 : pSd tp n 4 b1.2.2 b1.1 b1.2.1 with
        | error x => rw [h4] at h9; exact absurd h9 (by simp)
        | ok b2 =>
          rw [h4] at h9
          dsimp only at h9
          have a2 := pSd_fr a1.2.1 h4
          have e9 : b = (A.addS (wrd tp (nxt tp n t)) b1.2.1 b2.2.1 b2.1, b2.2.2) := by simpa using h9.symm
          rw [e9]
          show t.fr + 1 ≤ b2.2.2.fr
          have := K.it.nx.le
          omega
  unfold pSy at er
  unfold wp_X2_readsSymbol
  refine ⟨nn_of rfl K.R.k, ?_⟩
  rw [show (h.srm (64 * (E - t.fr)) (1024 * (E - t.fr))).fr 310 q = some g from hg]
  refine ⟨nn_of rfl B.k, ?_⟩
  rw [adr_some, show (h.srm (64 * (E - t.fr)) (1024 * (E - t.fr))).fr 400 g = some L.sl from B.s1]
  refine ⟨nn_of rfl B.s2.k, ?_⟩
  rw [adr_some]
  refine pc_size (h := (h.srm (64 * (E - t.fr)) (1024 * (E - t.fr))).srm 0 0) B.s2 ?_
  intro h6 e6
  have e6' : h6 = h.srm (64 * (E - t.fr)) (1024 * (E - t.fr)) := by rw [e6]; rfl
  have c6 : h6.c = h.c := by rw [e6']; rfl
  have rc6 : h6.rc = 64 * (E - t.fr) := by rw [e6']; rfl
  have rs6 : h6.rs = 1024 * (E - t.fr) := by rw [e6']; rfl
  have K6 : RdK h6.c lo q o jn tpa tp n t := by rw [c6]; exact K
  clear e6 e6'
  -- thrown
  have thr : ∀ {U : AH} {t1 : Tk} {kk : Nat} {k' : Int32} {e : Fl}, Fr (WG lo q) h.c U.c → RdK U.c lo q o jn tpa tp n t1 → kk < 10 → k' = I kk → thK t1 kk = e → r = .error e → 1 ≤ U.rc → 8 ≤ U.rs →
      cl U fun mc ms => wp_X2_wrong q k' (U.srm mc ms) fun r' h11 => ∀ h12, h12 = h11.srm (U.rc - mc) (U.rs - ms) → nn h12 r' 5 ∧ ∀ h10, h10 = h12.srm (h.rc - 64 * (E - t.fr)) (h.rs - 1024 * (E - t.fr)) → X (adr r') h10 := by
    intro U t1 kk k' e FU KU hkk ek et ere u1 u2
    refine g_wrong KU hkk ek u1 u2 (X := fun x h12 => ∀ h10, h10 = h12.srm (h.rc - 64 * (E - t.fr)) (h.rs - 1024 * (E - t.fr)) → X x h10) ?_
    intro x h' F' T' h10 e10
    have c10 : h10.c = h'.c := by rw [e10]; rfl
    rw [et] at T'
    exact h0 _ ere x h10 (by rw [c10]; exact FU.trans' F' (fun _ _ _ hh => hh.elim)) (by rw [c10]; exact T')
  by_cases e8 : A.g.nS = 8
  · rw [if_pos e8] at er
    refine brT (by rw [e8]; rfl) ⟨nn_of rfl K6.R.k, ?_⟩
    exact thr (by rw [c6]; exact Fr.refl _) K6 (kk := 6) (by decide) (by rfl) (thK_bad (by decide) (by omega)) er.symm (by omega) (by omega)
  rw [if_neg e8] at er
  refine brF (fun hh => e8 ((I_eq (by omega) (by decide)).1 (show I A.g.nS = I 8 from hh))) ⟨nn_of rfl K6.R.k, ?_⟩
  refine g_reads K6 (by omega) (by omega) ?_
  intro h11 F11 K11 rc11 rs11
  have F11' : Fr (WG lo q) h.c h11.c := by rw [← c6]; exact F11
  refine ⟨nn_of rfl K11.R.k, ?_⟩
  refine g_needsName K11 (by omega) (by omega) ?_ ?_
  rotate_left
  · intro hn x h' F' T h10 e10
    rw [if_neg (by rw [hn]; decide)] at er
    have c10 : h10.c = h'.c := by rw [e10]; rfl
    exact h0 _ er.symm x h10 (by rw [c10]; exact F11'.trans' F' (fun _ _ _ hh => hh)) (by rw [c10]; exact T)
  intro hn h18 F18 K18 rc18 rs18
  rw [if_pos hn] at er
  have F18' := F11'.trans' F18 (fun _ _ _ hh => hh)
  have B18 := B.go F18'
  have hg18 : h18.fr 310 q = some g := (F18'.fr 310 q K.R.l (by unfold WG; omega)).trans hg
  obtain ⟨wa, wv, w1, w2, w3⟩ := K18.T.w0 (by have := isNm_kd hn; omega)
  refine ⟨nn_of rfl K18.R.k, ?_⟩
  rw [hg18, show h18.fr 305 q = some wa from w1]
  refine ⟨nn_of rfl B18.k, ?_⟩
  rw [adr_some]
  refine px_symbolNamed (h := h18.srm 0 0) B18 w2 (pu ?_)
  have up2 := K.it.nx.up (nm_ne hn)
  cases hf : fdN A.sn A.g.nS (wrd tp (nxt tp n t)) with
  | some s =>
    rw [hf] at er
    have hs9 := (fdN_some.1 hf).1
    refine brF (I_nonneg (by omega)) ⟨nn_of rfl K18.R.k, ?_⟩
    exact thr F18' K18 (kk := 4) (by decide) (by rfl) (thK_nm (by decide) hn) er.symm (by omega) (by omega)
  | none =>
  rw [hf] at er
  rw [if_neg (by decide)] at er
  refine brT (by decide) ⟨⟨by omega, by omega⟩, ?_⟩
  intro h31 e31
  have F31 : Fr W0 h18.c h31.c := by rw [e31]; exact (Fr.refl _).new _ _ _
  have K31 := K18.keep0 F31
  have z31 : h31.sz = h18.sz + 1 := by rw [e31]; rfl
  have k31 : (h31.kd h18.sz).1 = 6 := by rw [e31, new_kd, if_pos rfl]
  have y31 : h31.fi 602 h18.sz = 0 := by rw [e31, new_fi, if_pos rfl]
  have r31 : h31.rc = h18.rc - 1 ∧ h31.rs = h18.rs - 6 := by rw [e31]; exact ⟨rfl, rfl⟩
  have w1' : h31.fr 305 q = some wa := (F31.fr 305 q K18.R.l id).trans w1
  have w2' : StR h31.c wa wv (wrd tp (nxt tp n t)) := w2.keep F31 id id id
  have sz18 : h.c.sz ≤ h18.c.sz := F18'.sz
  have hcs : h.c.sz = h.sz := rfl
  have h18s : h18.c.sz = h18.sz := rfl
  refine ⟨nn_of rfl K31.R.k, ?_⟩
  rw [w1']
  refine ⟨4, 21, ⟨by omega, by omega⟩, ?_⟩
  refine px_symInit (h := h31.srm 4 21) (z := h.c.sz) k31 (by show h18.sz < h31.sz; omega) y31 w2' (Nat.le_refl _) (Nat.le_refl _) (by omega) ?_
  intro h34 nl nd nm si sv F34 N34 h35 e35
  have c35 : h35.c = h34.c := by rw [e35]; rfl
  have F35 : Fr (fun f b => b = h18.sz ∧ 600 ≤ f ∧ f < 700) h31.c h35.c := by rw [c35]; exact F34
  have N35 : NwS h35.c h18.sz nl nd nm si sv 0 (fun _ => []) (wrd tp (nxt tp n t)) 0 h.c.sz := by rw [c35]; exact N34
  have r35 : h35.rc = h31.rc - 4 ∧ h35.rs = h31.rs - 21 := by rw [e35]; exact ⟨rfl, rfl⟩
  have lb : h31.c.lo ≤ h18.sz := by
    have h9 := K31.R.b
    have h7 := K18.R.l
    omega
  have K35 : RdK h35.c lo q o jn tpa tp n (nxt tp n t) := K31.keep F35 (fun f b hh => ⟨by omega, .inr (.inl (by omega))⟩)
  have FF35 : Fr (WG lo q) h.c h35.c := (F18'.trans' F31 (fun _ _ _ hh => hh.elim)).trans' F35 (fun f b hb hh => by omega)
  refine ⟨nn_of rfl K35.R.k, ?_⟩
  refine g_reads K35 (by omega) (by omega) ?_
  intro h42 F42 K42 rc42 rs42
  have F42' := FF35.trans' F42 (fun _ _ _ hh => hh)
  have N42 := N35.go F42
  have le2 := K42.le
  generalize hr1 : pSd tp n 3 (nxt tp n (nxt tp n t)) (fun _ => []) 0 = r1 at er
  have E1 : (nxt tp n (nxt tp n t)).fr ≤ E ∧ eE n (fun x => x.2.2) r1 ≤ E ∧ ∀ b, r1 = .ok b → b.2.2.fr ≤ E := by
    cases r1 with
    | error x =>
      have e9 : E = n + 1 := by rw [← hE, ← er]; rfl
      refine ⟨by omega, by rw [eE_er rfl]; omega, fun b hb => absurd hb (by simp)⟩
    | ok b =>
      have a1 := pSd_fr K42.it hr1
      dsimp only at er
      have h9 : b.2.2.fr ≤ E := by
        cases hr2 : pSd tp n 4 b.2.2 b.1 b.2.1 with
        | error x =>
          rw [hr2] at er
          have e9 : E = n + 1 := by rw [← hE, ← er]; rfl
          obtain ⟨fr, e1⟩ := a1.2.1
          have e2 : pSd tp n 3 (nxt tp n (nxt tp n t)) (fun _ => []) 0 = .ok b := hr1
          have h7 := pSd_n K42 e2
          omega
        | ok b2 =>
          rw [hr2] at er
          have a2 := pSd_fr a1.2.1 hr2
          have e9 : E = b2.2.2.fr := by rw [← hE, ← er]; rfl
          omega
      refine ⟨by omega, by rw [eE_ok rfl]; exact h9, fun b' hb => ?_⟩
      have e9 : b = b' := by simpa using hb
      rw [← e9]; exact h9
  refine ⟨nn_of rfl K42.R.k, ?_⟩
  refine g_side (kk := 3) (ci := 5) (by decide) (by decide) rfl (by decide) ql F42' K42 N42 hr1 (by omega) (by omega) ?_ ?_
  rotate_left
  · intro e he x h' F' T h10 e10
    rw [he] at er
    have c10 : h10.c = h'.c := by rw [e10]; rfl
    exact h0 _ er.symm x h10 (by rw [c10]; exact F') (by rw [c10]; exact T)
  intro an1 k1 t1 eo1 h67 nd1 nm1 F67 K67 N67 rc67 rs67
  rw [eo1] at er hr1
  dsimp only at er
  have a1 := pSd_fr K42.it hr1
  have t1E := E1.2.2 _ eo1
  have a11 : (nxt tp n (nxt tp n t)).fr ≤ t1.fr := a1.1
  have a14 : k1 ≤ 0 + 4 := a1.2.2.2
  have t1E' : t1.fr ≤ E := t1E
  refine ⟨nn_of rfl N67.k, ?_⟩
  refine px_countN (h := h67.srm 0 0) N67 (pu ⟨nn_of rfl N67.k, ?_⟩)
  intro h73 e73
  have F73 : Fr (fun f b => b = h18.sz ∧ f = 602) h67.c h73.c := by rw [e73]; exact (Fr.refl _).sfi _ (fun _ => ⟨rfl, rfl⟩)
  have lb2 : h67.c.lo ≤ h18.sz := by
    have h9 : h67.c.lo = h18.c.lo := by unfold HC.lo; rw [F67.bs, F18'.bs]
    have h7 := K18.R.b
    have h6 := K18.R.l
    omega
  have K73 : RdK h73.c lo q o jn tpa tp n t1 := K67.keep F73 (fun f b hh => ⟨by omega, .inr (.inl (by omega))⟩)
  have FF73 : Fr (WG lo q) h.c h73.c := F67.trans' F73 (fun f b hb hh => by omega)
  have N73 : NwS h73.c h18.sz nl nd1 nm1 si sv k1 an1 (wrd tp (nxt tp n t)) (I k1) h.c.sz := by
    have N' := N67
    obtain ⟨x, X1, X2⟩ := N'.ls
    obtain ⟨wa', wv', y1, y2⟩ := N'.w
    refine ⟨by rw [F73.kd _ N'.l]; exact N'.k, Nat.lt_of_lt_of_le N'.l F73.sz, by rw [F73.fr _ _ N'.l (by omega)]; exact N'.nf, ⟨x, X1.keep F73 (by omega) (by omega) (by omega), X2.keep F73 (fun a => ⟨by omega, by omega⟩) (fun v _ => by omega)⟩, N'.m1, by rw [e73]; exact sfi_same _ _ _ _, by rw [F73.fr _ _ N'.l (by omega)]; exact N'.i1, by rw [F73.kd _ N'.i3]; exact N'.i2, Nat.lt_of_lt_of_le N'.i3 F73.sz, fun j hj => by rw [F73.ai _ N'.i3 (by omega)]; exact N'.i4 j hj, by rw [F73.fr _ _ N'.l (by omega)]; exact N'.v1, by rw [F73.kd _ N'.v3]; exact N'.v2, Nat.lt_of_lt_of_le N'.v3 F73.sz, ⟨wa', wv', by rw [F73.fr _ _ N'.l (by omega)]; exact y1, y2.keep F73 (by omega) (by omega) (by omega)⟩, N'.z, N'.d⟩
  have r73 : h73.rc = h67.rc ∧ h73.rs = h67.rs := by rw [e73]; exact ⟨rfl, rfl⟩
  generalize hr2 : pSd tp n 4 t1 an1 k1 = r2 at er
  have le3 := K73.le
  have E2 : eE n (fun x => x.2.2) r2 ≤ E ∧ ∀ b, r2 = .ok b → b.2.2.fr = E ∧ t1.fr ≤ b.2.2.fr := by
    cases r2 with
    | error x =>
      have e9 : E = n + 1 := by rw [← hE, ← er]; rfl
      exact ⟨by rw [eE_er rfl]; omega, fun b hb => absurd hb (by simp)⟩
    | ok b =>
      have a2 := pSd_fr K73.it hr2
      have e9 : E = b.2.2.fr := by rw [← hE, ← er]; rfl
      exact ⟨by rw [eE_ok rfl]; omega, fun b' hb => by
        have e8 : b = b' := by simpa using hb
        rw [← e8]; exact ⟨e9.symm, a2.1⟩⟩
  have bud : 64 * (E - t1.fr) + 20 ≤ h73.rc ∧ 1024 * (E - t1.fr) + 200 ≤ h73.rs := by
    constructor <;> omega
  refine ⟨nn_of rfl K73.R.k, ?_⟩
  refine g_side (kk := 4) (ci := 6) (by decide) (by decide) rfl (by omega) ql FF73 K73 N73 hr2 (by omega) (by omega) ?_ ?_
  rotate_left
  · intro e he x h' F' T h10 e10
    rw [he] at er
    have c10 : h10.c = h'.c := by rw [e10]; rfl
    exact h0 _ er.symm x h10 (by rw [c10]; exact F') (by rw [c10]; exact T)
  intro an2 k2 t2 eo2 h95 nd2 nm2 F95 K95 N95 rc95 rs95
  rw [eo2] at er hr2
  dsimp only at er
  have a2 := pSd_fr K73.it hr2
  have t2E := E2.2 _ eo2
  have t2E1 : t2.fr = E := t2E.1
  have t2E2 : t1.fr ≤ t2.fr := t2E.2
  have a23 : k1 ≤ k2 := a2.2.2.1
  have a24 : k2 ≤ k1 + 4 := a2.2.2.2
  have B95 := B.go F95
  have hg95 : h95.fr 310 q = some g := (F95.fr 310 q K.R.l (by unfold WG; omega)).trans hg
  have z95 : h.c.sz ≤ h95.c.sz := F95.sz
  refine ⟨nn_of rfl K95.R.k, ?_⟩
  rw [hg95]
  refine ⟨nn_of rfl B95.k, ?_⟩
  rw [adr_some, show h95.fr 400 g = some L.sl from B95.s1]
  refine ⟨nn_of rfl B95.s2.k, ?_⟩
  rw [adr_some]
  have gk := grw_le (show A.g.nS ≤ 12 by omega)
  refine g_add B95.s2 (fun i hi => ⟨(B95.sy i hi).R.l, by rw [(B95.sy i hi).R.k]; rfl⟩) B95.s3 (by omega) N95.l (by show stk 44 (h95.kd h18.sz).1 = true; rw [show (h95.kd h18.sz).1 = 6 from N95.k]; rfl) (by omega) (by omega) ?_
  intro h101 sd sm F101 L101 hm hd _ _ h4 e4
  have c4 : h4.c = h101.c := by rw [e4]; rfl
  have GB' := GB.addS B hz F95 N95 (by omega) a23 a24 (by omega) F101 L101 hm (by rcases hd with e | e; exact .inl e; exact .inr e)
  have sdk : (h95.c.kd L.sd).1 = 44 := by rw [B95.s2.dk]
  have sdz := B.z L.sd (by rw [B.o2]; unfold tg; omega)
  have slz := B.z L.sl (by rw [B.o1]; unfold tg; omega)
  have lz : h95.c.lo ≤ z0 := by
    have := K95.R.b
    omega
  have K101 : RdK h101.c lo q o jn tpa tp n t2 := by
    refine K95.keep F101 (fun f b hh => ?_)
    rcases hh with ⟨e, hf⟩ | ⟨e1, e2⟩
    · exact ⟨by omega, .inr (.inl (by omega))⟩
    · exact ⟨by omega, .inr (.inr ⟨e1, by rw [e2, sdk]; decide, by rw [e2, sdk]; decide⟩)⟩
  have FF : Fr (WGz lo q z0) h.c h101.c := (F95.wgz (z0 := z0)).trans' F101 (fun f b hb hh => by
    rcases hh with ⟨e, _⟩ | ⟨_, e⟩
    · exact .inr (by omega)
    · exact .inr (by omega))
  exact h1 _ _ er.symm h4 _ _ (by rw [c4]; exact FF) (by rw [c4]; exact K101) (by rw [c4]; exact GB') (by rw [e4, t2E1]; rfl) (by rw [e4, t2E1]; rfl)
end
