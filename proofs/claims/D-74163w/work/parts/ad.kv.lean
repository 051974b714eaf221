/-! plain: kv -/
set_option maxRecDepth 100000
section
variable {h : AH} {lo q o jn tpa : Nat} {tp : Nat → Nat} {n : Nat} {t : Tk} {L L' : GA} {A A' : PG} {ow ow' : Nat → Nat} {z0 g p : Nat}

theorem nil_W : PG.nil.g.WF := ⟨Nat.zero_le _, Nat.zero_le _, fun s hs => absurd hs (Nat.not_lt_zero _), fun s hs => absurd hs (Nat.not_lt_zero _), fun s hs => absurd hs (Nat.not_lt_zero _), fun p hp => absurd hp (Nat.not_lt_zero _), fun p k hp => absurd hp (Nat.not_lt_zero _), fun p u e hp => absurd hp (Nat.not_lt_zero _), fun p u e x hp => absurd hp (Nat.not_lt_zero _)⟩
theorem nil_Y : PG.nil.g.RL := ⟨fun p u e x hp => absurd hp (Nat.not_lt_zero _), fun p u e hp => absurd hp (Nat.not_lt_zero _), fun p u e hp => absurd hp (Nat.not_lt_zero _)⟩
def GA.nil (z : Nat) : GA := (z, z + 1, z + 2, 2, z + 3, z + 4, 2, fun _ => 0, fun _ => 0, fun _ => 0, fun _ => 0, fun _ => 0, fun _ => 0, fun _ => 0, fun _ => 0, fun _ => 0, fun _ => 0, fun _ => 0, fun _ => 0, fun _ => 0, fun _ => 0)
def ow0 (z : Nat) : Nat → Nat := fun x => if x = z + 1 then tg 12 0 else if x = z + 2 then tg 13 0 else if x = z + 3 then tg 14 0 else if x = z + 4 then tg 15 0 else 0
/-- a grammar's object is made. -/
theorem px_gInit {r : Option Nat} {z : Nat} (hk : (h.kd z).1 = 4) (hz : h.sz = z + 1) (hc : 4 ≤ h.rc) (hs : 10 ≤ h.rs) {Q : AH → Prop} (hQ : ∀ h', Fr (fun f a => a = z ∧ 400 ≤ f ∧ f ≤ 404) h.c h'.c → GB h'.c (GA.nil z) PG.nil (ow0 z) z z → h'.sz = z + 5 → Q h') : wp_X3_init z r h Q := by
  unfold wp_X3_init
  refine ⟨nn_of rfl hk, ?_⟩
  intro h2 e2
  have F2 : Fr (fun f a => a = z ∧ 400 ≤ f ∧ f ≤ 404) h.c h2.c := by rw [e2]; exact (Fr.refl _).sfr _ (fun _ => ⟨rfl, by decide, by decide⟩)
  have s2 : h2.sz = z + 1 := by rw [e2]; exact hz
  have r2 : h2.rc = h.rc ∧ h2.rs = h.rs := by rw [e2]; exact ⟨rfl, rfl⟩
  have zl : z < h.c.sz := by show z < h.sz; omega
  have kk : ∀ {U : AH}, Fr (fun f a => a = z ∧ 400 ≤ f ∧ f ≤ 404) h.c U.c → (U.kd z).1 = 4 := @fun U F => by show (U.c.kd z).1 = _; rw [F.kd z zl]; exact hk
  refine ⟨⟨by omega, by omega⟩, ?_⟩
  intro h3 e3
  have z3 : h3.sz = h2.sz + 1 := by rw [e3]; rfl
  have r3 : h3.rc = h2.rc - 1 ∧ h3.rs = h2.rs - 3 := by rw [e3]; exact ⟨rfl, rfl⟩
  have k3 : (h3.kd h2.sz).1 = 23 := by rw [e3, new_kd, if_pos rfl]
  have y3 : h3.fi 2302 h2.sz = 0 := by rw [e3, new_fi, if_pos rfl]
  refine ⟨1, 2, ⟨by omega, by omega⟩, ?_⟩
  refine pc_initL (h := h3.srm 1 2) (n := 2) k3 (by show h2.sz < h3.sz; omega) y3 (by decide) (by decide) (Nat.le_refl _) (Nat.le_refl _) ?_
  intro h5 F5 L5 s5 _ _ h6 e6
  have c6 : h6.c = h5.c := by rw [e6]; rfl
  have F6 : Fr (fun f b => b = h2.sz ∧ (f = 2300 ∨ f = 2301)) h3.c h6.c := by rw [c6]; exact F5
  have s6 : h6.sz = h3.sz + 1 := by rw [e6]; exact s5
  have L6 : Ls h6.c h2.sz h3.sz 2 0 (fun _ => 0) := by rw [c6]; exact L5 _
  have r6 : h6.rc = h.rc - 2 ∧ h6.rs = h.rs - 5 := by
    rw [e6]
    show h3.rc - 1 = _ ∧ h3.rs - 2 = _
    omega
  have T6 : Fr (fun f a => a = z ∧ 400 ≤ f ∧ f ≤ 404) h.c h6.c := by
    have f3 : Fr (fun f a => a = z ∧ 400 ≤ f ∧ f ≤ 404) h.c h3.c := by rw [e3]; exact F2.new _ _ _
    exact f3.trans' F6 (fun f b hb hh => by have h9 : b < h.sz := hb; omega)
  refine ⟨nn_of rfl (kk T6), ?_⟩
  intro h11 e11
  obtain ⟨f11, L11, F11, s11⟩ := lst_new (a := z) (f := 400) (by omega) e3 F6 s6 L6 e11 (by decide)
  have T11 : Fr (fun f a => a = z ∧ 400 ≤ f ∧ f ≤ 404) h.c h11.c := F2.trans' F11 (fun f b _ hh => by omega)
  have r11 : h11.rc = h.rc - 2 ∧ h11.rs = h.rs - 5 := by rw [e11]; exact r6
  refine ⟨⟨by omega, by omega⟩, ?_⟩
  intro h12 e12
  have z12 : h12.sz = h11.sz + 1 := by rw [e12]; rfl
  have r12 : h12.rc = h11.rc - 1 ∧ h12.rs = h11.rs - 3 := by rw [e12]; exact ⟨rfl, rfl⟩
  have k12 : (h12.kd h11.sz).1 = 23 := by rw [e12, new_kd, if_pos rfl]
  have y12 : h12.fi 2302 h11.sz = 0 := by rw [e12, new_fi, if_pos rfl]
  refine ⟨1, 2, ⟨by omega, by omega⟩, ?_⟩
  refine pc_initL (h := h12.srm 1 2) (n := 2) k12 (by show h11.sz < h12.sz; omega) y12 (by decide) (by decide) (Nat.le_refl _) (Nat.le_refl _) ?_
  intro h14 F14 L14 s14 _ _ h15 e15
  have c15 : h15.c = h14.c := by rw [e15]; rfl
  have F15 : Fr (fun f b => b = h11.sz ∧ (f = 2300 ∨ f = 2301)) h12.c h15.c := by rw [c15]; exact F14
  have s15 : h15.sz = h12.sz + 1 := by rw [e15]; exact s14
  have L15 : Ls h15.c h11.sz h12.sz 2 0 (fun _ => 0) := by rw [c15]; exact L14 _
  have T15 : Fr (fun f a => a = z ∧ 400 ≤ f ∧ f ≤ 404) h.c h15.c := by
    have f3 : Fr (fun f a => a = z ∧ 400 ≤ f ∧ f ≤ 404) h.c h12.c := by rw [e12]; exact T11.new _ _ _
    exact f3.trans' F15 (fun f b hb hh => by have h9 : b < h.sz := hb; omega)
  refine ⟨nn_of rfl (kk T15), ?_⟩
  intro h20 e20 h21 e21 h22 e22
  obtain ⟨f20, L20, F20, s20⟩ := lst_new (a := z) (f := 401) (by omega) e12 F15 s15 L15 e20 (by decide)
  have G21 : Fr (fun f a => a = z ∧ (f = 402 ∨ f = 403)) h20.c h22.c := by rw [e22, e21]; exact ((Fr.refl _).sfi _ (fun _ => ⟨rfl, .inl rfl⟩)).sfi _ (fun _ => ⟨rfl, .inr rfl⟩)
  have T22 : Fr (fun f a => a = z ∧ 400 ≤ f ∧ f ≤ 404) h.c h22.c := (T11.trans' F20 (fun f b _ hh => by omega)).trans' G21 (fun f b _ hh => by omega)
  have H22 : Fr (fun f a => a = z ∧ (f = 401 ∨ f = 402 ∨ f = 403)) h11.c h22.c := (F20.mono (W' := fun f a => a = z ∧ (f = 401 ∨ f = 402 ∨ f = 403)) (fun f b _ hh => by omega)).trans' G21 (fun f b _ hh => by omega)
  have s22 : h22.sz = z + 5 := by rw [e22, e21]; show h20.sz = _; omega
  rw [s2] at L11
  have L11' : Ls h22.c (z + 1) (z + 2) 2 0 (fun _ => 0) := L11.keep H22 (by omega) (by omega) (by omega)
  have h11s : h11.sz = z + 3 := by omega
  rw [h11s] at L20
  have L20' : Ls h22.c (z + 3) (z + 4) 2 0 (fun _ => 0) := L20.keep G21 (by omega) (by omega) (by omega)
  refine hQ h22 T22 ⟨kk T22, by show z < h22.sz; omega, ?_, L11', (show 1 ≤ 2 from by decide), ?_, L20', (show 1 ≤ 2 from by decide), ?_, ?_, fun s hs => absurd hs (Nat.not_lt_zero _), fun p hp => absurd hp (Nat.not_lt_zero _), ?_, ?_, ?_, ?_, ?_, nil_W, nil_Y⟩ s22
  · rw [H22.fr 400 z (by show z < h11.sz; omega) (by omega)]
    show h11.fr 400 z = some (z + 1)
    rw [f11, s2]
  · rw [G21.fr 401 z (by show z < h20.sz; omega) (by omega)]
    show h20.fr 401 z = some (z + 3)
    rw [f20, h11s]
  · show h22.fi 402 z = -1
    rw [e22, sfi_ne _ _ _ _ (by decide), e21, sfi_same]
  · show h22.fi 403 z = -1
    rw [e22, sfi_same]
  · show ow0 z (z + 1) = _
    unfold ow0; rw [if_pos rfl]
  · show ow0 z (z + 2) = _
    unfold ow0; rw [if_neg (by omega), if_pos rfl]
  · show ow0 z (z + 3) = _
    unfold ow0; rw [if_neg (by omega), if_neg (by omega), if_pos rfl]
  · show ow0 z (z + 4) = _
    unfold ow0; rw [if_neg (by omega), if_neg (by omega), if_neg (by omega), if_pos rfl]
  · intro a ha
    unfold ow0 at ha
    by_cases h9 : z ≤ a
    · exact h9
    · rw [if_neg (by omega), if_neg (by omega), if_neg (by omega), if_neg (by omega)] at ha
      exact absurd rfl ha

theorem wrd8 {t : Tk} (ht : isT tp n t) (hn : isNm tp t = true) : (wrd tp t).length ≤ 8 := by
  obtain ⟨fr, e⟩ := ht
  have hk := isNm_kd hn
  rw [e] at hk ⊢
  exact (tok_word hk).2.1
def pn8 (A : PG) : Prop := ∀ p, p < A.g.nP → (A.pn p).length ≤ 8
theorem pLn_pn {t : Tk} (W : A.g.WF) (ht : isT tp n t) (hA : pn8 A) {b : PG × Tk} (hb : pLn tp n A t = .ok b) : pn8 b.1 := by
  unfold pLn at hb
  split at hb
  · cases hb
  · rename_i q hq
    split at hb
    · cases hb
    · cases hb
      show pn8 q.1
      unfold pLn0 at hq
      split at hq
      · unfold pSy at hq
        split at hq
        · cases hq
        · split at hq
          · split at hq
            · cases hq
            · split at hq
              · cases hq
              · split at hq
                · cases hq
                · cases hq; exact hA
          · cases hq
      · split at hq
        · unfold pPr at hq
          split at hq
          · cases hq
          · split at hq
            · rename_i hnm
              split at hq
              · cases hq
              · split at hq
                · unfold pPr3 at hq
                  split at hq
                  · split at hq
                    · cases hq
                    · split at hq
                      · cases hq
                      · rename_i r hr
                        cases hq
                        intro p hp
                        have hp' : p < A.g.nP + 1 := hp
                        show (updN A.pn A.g.nP (wrd tp (nxt tp n t)) p).length ≤ 8
                        by_cases e : p = A.g.nP
                        · rw [e, updN_same]; exact wrd8 ht.nx hnm
                        · rw [updN_ne _ _ e]; exact hA p (by omega)
                  · cases hq
                · cases hq
            · cases hq
        · split at hq
          · unfold pRl at hq
            split at hq
            · split at hq
              · cases hq
              · rw [pRl2_eq] at hq
                split at hq
                · cases hq
                · unfold pRl3 at hq
                  split at hq
                  · split at hq
                    · cases hq
                    · split at hq
                      · cases hq
                      · cases hq; exact hA
                  · cases hq
            · cases hq
          · cases hq
theorem CoR.keep' {W : Nat → Nat → Prop} {c c' : HC} (Z : CoR c) (F : Fr W c c') (h1 : ∀ a, ¬ W 2200 a) (h2 : ∀ a, ¬ W 2201 a) (h3 : ∀ v, (c.kd v).1 = 41 → ¬ W 0 v) : CoR c' := by
  intro k hk
  obtain ⟨a, v, e1, e2, e3, e4⟩ := Z k hk
  exact ⟨a, v, by unfold HC.cs at *; rw [F.bs]; exact e1, e2.keep F (h1 _) (h2 _) (h3 v (by rw [e2.vk])), by unfold HC.lo at *; rw [F.bs]; exact e3, by unfold HC.lo at *; rw [F.bs]; exact e4⟩
theorem WC.noK {c : HC} {a t m : Nat} (X : GX c L A.g g) (hk : c.kd a = (t, m)) (ht : t ≠ 40) : ¬ WC L A.g g 0 a := WC.noa X hk (by intro e; exact ht (Prod.mk.inj e).1) (by intro e; exact ht (Prod.mk.inj e).1)
/-- a grammar is read whole. -/
theorem g_readsGrammar (K : RdK h.c lo q o jn tpa tp n t) (ht : t = tok tp n 0) (J : NzJ h.c) (hx : h.fi 303 q = 0 ∧ h.fi 304 q = 0) (hc : 592 + 194 * n ≤ h.rc) (hs : 3163 + 5146 * n ≤ h.rs) {P : Option Nat → AH → Prop} {X : Nat → AH → Prop}
    (h1 : ∀ A, pAll tp n = .ok A → ∀ h' L ind, Fr (fun f a => WA lo q f a ∨ f = 605 ∨ f = 706) h.c h'.c → CgR h'.c L A h.sz ind → CbR h'.c o jn tpa → CoR h'.c → P (some h.sz) h')
    (h0 : ∀ e, pAll tp n = .error e → ∀ x h', Fr (WA lo q) h.c h'.c → ThR h'.c x e → X x h') :
    cl h fun mc ms => wp_X2_readsGrammar q (h.srm mc ms) (fun r h3 => ∀ h4, h4 = h3.srm (h.rc - mc) (h.rs - ms) → P r h4) (fun q8 h9 => ∀ h10, h10 = h9.srm (h.rc - mc) (h.rs - ms) → X q8 h10) := by
  refine ⟨592 + 194 * n, 3163 + 5146 * n, ⟨hc, hs⟩, ?_⟩
  dsimp only
  unfold wp_X2_readsGrammar
  have ql : q < h.sz := K.R.l
  refine ⟨⟨by show 1 ≤ 592 + 194 * n; omega, by show 5 ≤ 3163 + 5146 * n; omega⟩, ?_⟩
  intro h2 e2
  have F2 : Fr W0 h.c h2.c := by rw [e2]; exact Fr.new (h := h.srm (592 + 194 * n) (3163 + 5146 * n)) (Fr.refl h.c) _ _ _
  have K2 := K.keep0 F2
  have z2 : h2.sz = h.sz + 1 := by rw [e2]; rfl
  have k2 : (h2.kd h.sz).1 = 4 := by
    rw [e2]
    show (((h.srm (592 + 194 * n) (3163 + 5146 * n)).new 4 0 5).kd h.sz).1 = 4
    rw [new_kd]; exact congrArg Prod.fst (if_pos rfl)
  have r2 : h2.rc = 591 + 194 * n ∧ h2.rs = 3158 + 5146 * n := by
    rw [e2]
    show 592 + 194 * n - 1 = _ ∧ 3163 + 5146 * n - 5 = _
    omega
  refine ⟨nn_of rfl K2.R.k, 4, 10, ⟨by omega, by omega⟩, ?_⟩
  show wp_X3_init h.sz _ (h2.srm 4 10) _
  refine px_gInit (h := h2.srm 4 10) k2 z2 (Nat.le_refl _) (Nat.le_refl _) ?_
  intro h4 F4 B4 s4 h5 e5
  have c5 : h5.c = h4.c := by rw [e5]; rfl
  have F5 : Fr (fun f a => a = h.sz ∧ 400 ≤ f ∧ f ≤ 404) h2.c h5.c := by rw [c5]; exact F4
  have B5 : GB h5.c (GA.nil h.sz) PG.nil (ow0 h.sz) h.sz h.sz := by rw [c5]; exact B4
  have r5 : h5.rc = 587 + 194 * n ∧ h5.rs = 3148 + 5146 * n := by
    rw [e5]
    show h2.rc - 4 = _ ∧ h2.rs - 10 = _
    omega
  have lq := K2.R.b
  have K5 : RdK h5.c lo q o jn tpa tp n t := K2.keep F5 (fun f a hh => ⟨by omega, .inr (.inl (by omega))⟩)
  have F5' : Fr W0 h.c h5.c := F2.trans' F5 (fun f a ha hh => by have h9 : a < h.sz := ha; omega)
  refine ⟨nn_of rfl K5.R.k, ?_⟩
  intro h10 e10
  have G10 : Fr (fun f a => f = 310 ∧ a = q) h5.c h10.c := by rw [e10]; exact (Fr.refl _).sfr _ (fun _ => ⟨rfl, rfl⟩)
  have lq5 := K5.R.b
  have C10 : LnC h10.c lo q o jn tpa tp n (GA.nil h.sz) PG.nil (ow0 h.sz) h.sz h.sz t := by
    have x3 : h10.c.fi 303 q = I 0 := by
      rw [G10.fi 303 q K5.R.l (by omega), F5'.fi 303 q K.R.l id]; exact hx.1
    have x4 : h10.c.fi 304 q = I 0 := by
      rw [G10.fi 304 q K5.R.l (by omega), F5'.fi 304 q K.R.l id]; exact hx.2
    refine ⟨K5.keep G10 (fun f a hh => ⟨by omega, .inl ⟨hh.2, by omega⟩⟩), B5.keepR G10 (fun f a hh => by omega), by rw [e10]; exact sfr_same _ _ _ _, (J.keep F5').keep G10, ⟨0, 0, x3, x4, by decide, by decide⟩, ql, ?_⟩
    have : h.c.sz ≤ h5.c.sz := F5'.sz
    have : h5.c.sz ≤ h10.c.sz := G10.sz
    have : h.c.sz = h.sz := rfl
    omega
  have F10 : Fr (WA lo q) h.c h10.c := (F5'.mono (fun _ _ _ hh => hh.elim)).trans' G10 (fun f a _ hh => ⟨by rw [← K5.L]; omega, .inl (by omega)⟩)
  have r10 : h10.rc = 587 + 194 * n ∧ h10.rs = 3148 + 5146 * n := by rw [e10]; exact r5
  have wz : ∀ {c c' : HC}, Fr (WA lo q) h.c c → Fr (WAz lo q h.sz) c c' → Fr (WA lo q) h.c c' := fun f1 f2 => f1.trans' f2 (fun f a ha hh => by
    rcases hh with hh | hh
    · exact hh
    · have h9 : a < h.sz := ha
      omega)
  refine ⟨fun f _ U => ∃ A t1 L ow, pGr tp n f A t1 = pAll tp n ∧ pn8 A ∧ n + 2 ≤ f + t1.fr ∧ 4 * A.g.nP ≤ t1.fr ∧ Fr (WA lo q) h.c U.c ∧ LnC U.c lo q o jn tpa tp n L A ow h.sz h.sz t1 ∧ 64 * (n + 1 - t1.fr) + 523 + 130 * n ≤ U.rc ∧ 1024 * (n + 1 - t1.fr) + 2124 + 4122 * n ≤ U.rs,
    ⟨n + 2, PG.nil, t, GA.nil h.sz, ow0 h.sz, by rw [ht]; rfl, fun p hp => absurd hp (Nat.not_lt_zero _), by omega, Nat.zero_le _, F10, C10, by omega, by omega⟩, ?_⟩
  rintro f _ U ⟨A, t1, L, ow, eg, hpn, hf, h4P, FU, CU, rcU, rsU⟩
  have le1 := CU.K.le
  obtain ⟨f', rfl⟩ : ∃ f', f = f' + 1 := ⟨f - 1, by omega⟩
  unfold pGr at eg
  generalize hrl : pLn tp n A t1 = rl at eg
  have nt1 : nN n t1 := ⟨le1, CU.K.T.l2⟩
  have okl : ∀ b, rl = .ok b → t1.fr + 1 ≤ b.2.fr ∧ 4 * b.1.g.nP ≤ b.2.fr ∧ b.2.fr ≤ n := by
    intro b hb
    have a1 := pLn_fr (A' := b.1) (t' := b.2) CU.B.W CU.K.it (hrl.trans hb)
    refine ⟨a1.1, a1.2.2 h4P, ?_⟩
    have h9 := hrl.trans hb
    unfold pLn at h9
    split at h9
    · cases h9
    · rename_i q0 hq0
      split at h9
      · cases h9
      · rename_i t9 ht9
        cases h9
        exact (pEat_n (pLn0_n nt1 hq0) ht9).1
  have cost : eE n (fun x : PG × Tk => x.2) rl ≤ n + 1 := by
    cases hr : rl with
    | error x => rw [eE_er rfl]; exact Nat.le_refl _
    | ok b => rw [eE_ok rfl]; have := (okl b hr).2.2; omega
  refine ⟨nn_of rfl CU.K.R.k, ?_⟩
  refine g_line CU hrl (by omega) (by omega) ?_ ?_
  rotate_left
  · intro e he x h' F' T' h9 e9
    rw [he] at eg
    have c9 : h9.c = h'.c := by rw [e9]; rfl
    exact h0 _ eg.symm x h9 (by rw [c9]; exact wz FU F') (by rw [c9]; exact T')
  intro A1 t2 eo h16 L1 ow1 F16 C16 rc16 rs16
  rw [eo] at eg
  dsimp only at eg
  obtain ⟨o1, o2, o3⟩ := okl _ eo
  have hpn1 : pn8 A1 := pLn_pn CU.B.W CU.K.it hpn (hrl.trans eo)
  have o1' : t1.fr + 1 ≤ t2.fr := o1
  have o2' : 4 * A1.g.nP ≤ t2.fr := o2
  have o3' : t2.fr ≤ n := o3
  have F16' := wz FU F16
  refine ⟨nn_of rfl C16.K.R.k, ?_⟩
  refine px_isEnd (h := h16.srm 0 0) C16.K (pu ?_)
  by_cases hend : t2.kd = 0
  rotate_left
  · rw [if_neg hend] at eg ⊢
    refine brT rfl ⟨f', Nat.lt_succ_self _, A1, t2, L1, ow1, eg, hpn1, by omega, o2', F16', C16, by omega, by omega⟩
  rw [if_pos hend] at eg ⊢
  refine brF (by decide) ⟨nn_of rfl C16.K.R.k, ?_⟩
  rw [show h16.fr 310 q = some h.sz from C16.G]
  refine ⟨nn_of rfl C16.B.k, ?_⟩
  rw [adr_some]
  have W := C16.B.W
  have hS8 := W.nS
  have cc : ccl A1.g ≤ 523 + 130 * n ∧ csl A1.g ≤ 2124 + 4122 * n := by
    unfold ccl csl cc2 cs2 cc3 cs3 cc4 cs4
    constructor <;> omega
  refine ⟨ccl A1.g, csl A1.g, ⟨by omega, by omega⟩, ?_⟩
  refine px_closes (h := h16.srm (ccl A1.g) (csl A1.g)) W C16.B.GD C16.B.GX (fun s a hs ha => (C16.B.sy s hs).z a ha) C16.B.b1 C16.B.b2 (Nat.le_refl _) (Nat.le_refl _) ?_
  intro h31 ind F31 I31 G31 h32 e32
  have c32 : h32.c = h31.c := by rw [e32]; rfl
  have F32 : Fr (WC L1 A1.g h.sz) h16.c h32.c := by rw [c32]; exact F31
  have G32 : GF h32.c L1 A1.g h.sz ind := by rw [c32]; exact G31
  have X16 := C16.B.GX
  have X32 := X16.keep F32
  have kq : (h32.c.kd q).1 = 3 := by rw [F32.kd q C16.K.R.l]; exact C16.K.R.k
  have nW : ∀ f a, f ≠ 0 → f ≠ 605 → f ≠ 706 → f ≠ 402 → f ≠ 403 → ¬ WC L1 A1.g h.sz f a := fun f a a1 a2 a3 a4 a5 => WC.nof a1 a2 a3 a4 a5
  have g32 : h32.fr 310 q = some h.sz := (F32.fr 310 q C16.K.R.l (nW _ _ (by decide) (by decide) (by decide) (by decide) (by decide))).trans C16.G
  refine ⟨nn_of rfl kq, ?_⟩
  rw [g32]
  intro h40 e40
  have c40 : h40.c = h32.c := by rw [e40]; rfl
  have n0 : ∀ a, (h16.c.kd a).1 ≠ 40 → ¬ WC L1 A1.g h.sz 0 a := fun a hk => WC.noK X16 (t := (h16.c.kd a).1) (m := (h16.c.kd a).2) rfl hk
  have FF : Fr (fun f a => WA lo q f a ∨ f = 605 ∨ f = 706) h.c h32.c := by
    refine (F16'.mono (W' := fun f a => WA lo q f a ∨ f = 605 ∨ f = 706) (fun _ _ _ hh => .inl hh)).trans' F32 (fun f a ha hh => ?_)
    have h9 : a < h.sz := ha
    rcases hh with ⟨e0, hh⟩ | e | e | ⟨_, e⟩
    · exfalso
      have zz := C16.B.z
      rcases hh with ⟨s, hs, e | e⟩ | ⟨p, hp, e⟩
      · have := zz (L1.si s) (by rw [(C16.B.sy s hs).o4]; unfold tg; omega); omega
      · have := zz (L1.sv s) (by rw [(C16.B.sy s hs).o5]; unfold tg; omega); omega
      · have := zz (L1.pp p) (by rw [(C16.B.pr p hp).o7]; unfold tg; omega); omega
    · exact .inr (.inl e)
    · exact .inr (.inr e)
    · omega
  have RR := C16.K.R
  refine h1 A1 eg.symm h40 L1 ind (by rw [c40]; exact FF) ?_ ?_ ?_
  · rw [c40]
    exact ⟨X32, C16.B.GD, I31, G32, C16.B.RuR.keep F32 (fun p hp => (C16.B.pr p hp).R.l) (fun f a hh => nW f a (by omega) (by omega) (by omega) (by omega) (by omega)) (fun a hk => n0 a (by omega)), C16.B.pn.keep F32 (fun f a hh => nW f a (by omega) (by omega) (by omega) (by omega) (by omega)) (fun a hk => n0 a (by omega)), W, C16.B.Y, hpn1⟩
  · rw [c40]
    exact RR.B.keep F32 (nW _ _ (by decide) (by decide) (by decide) (by decide) (by decide)) (nW _ _ (by decide) (by decide) (by decide) (by decide) (by decide)) (n0 _ (by rw [RR.B.j2]; decide))
  · rw [c40]
    refine RR.z.keep' F32 (nW _ · (by decide) (by decide) (by decide) (by decide) (by decide)) (nW _ · (by decide) (by decide) (by decide) (by decide) (by decide)) (fun v hv => n0 v (by rw [hv]; decide))
end
