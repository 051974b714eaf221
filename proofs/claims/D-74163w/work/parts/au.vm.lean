/-! plain: vm -/
set_option maxRecDepth 100000
section
variable {h : AH} {o jn tpa : Nat} {X : AX} {x y z u : Int32} {L : GA} {A : PG} {g : Nat} {ind : Nat → Int32} {Q : Int32 → AH → Prop} {V : Tv} {sz : Nat → Nat} {gv : Nat → Int32}
variable {D : TA}

/-- a loop over a list, with what it writes. -/
theorem eachW {σ : Type} {a d m n : Nat} {xx : Nat → Nat} (Y : Ls h.c a d m n xx) (hr : 1 ≤ h.rc) (hs : 4 ≤ h.rs) {E : σ → AH → Prop} {Bd : σ → Option Nat → AH → (σ → AH → Prop) → Prop} {s0 : σ} (W : Nat → Nat → Prop) (Inv : Nat → σ → AH → Prop)
    (hW : (∀ f b, (f = 2400 ∨ f = 2402 ∨ f = 2403) → ¬ W f b) ∧ ¬ W 2300 a ∧ ¬ W 2301 a ∧ ¬ W 2302 a ∧ ¬ W 0 d)
    (h0 : ∀ h6, Fr W0 h.c h6.c → h6.sz = h.sz + 1 → h6.rc = h.rc - 1 → h6.rs = h.rs - 4 → Inv 0 s0 h6)
    (hS : ∀ i s U U', Inv i s U → Fr (WIt h.sz) U.c U'.c → U'.rc = U.rc → U'.rs = U.rs → U'.sz = U.sz → Inv i s U')
    (hE : ∀ s h', Inv n s h' → E s h') (hB : ∀ i s h' K, i < n → Inv i s h' → (∀ s' h'', Inv (i + 1) s' h'' → Fr W h'.c h''.c → K s' h'') → Bd s (some (xx i)) h' K) :
    cl h fun mc ms => wp_J12_iterator a (h.srm mc ms) fun r4 h5 => ∀ h6, h6 = h5.srm (h.rc - mc) (h.rs - ms) →
    xlp (σ := σ) (fun s T k => xjn (α := Int32) (fun J =>
      ((nn T r4 24 ∧ wp_J16_hasNext (adr r4) (T.srm 0 0) fun r h' => ∀ h'', h'' = h'.srm T.rc T.rs → J r h'') ∨
       (nn T r4 20 ∧ wp_X20_hasNext (adr r4) (T.srm 0 0) fun r h' => ∀ h'', h'' = h'.srm T.rc T.rs → J r h''))) (fun r14 h15 =>
      ((r14 = 0 → E s h15) ∧ (¬ r14 = 0 →
      xjn (α := Option Nat) (fun J =>
      ((nn h15 r4 24 ∧ cl h15 fun mc ms => wp_J16_next (adr r4) (h15.srm mc ms) fun r h' => ∀ h'', h'' = h'.srm (h15.rc - mc) (h15.rs - ms) → J r h'') ∨
       (nn h15 r4 20 ∧ cl h15 fun mc ms => wp_X20_next (adr r4) (h15.srm mc ms) fun r h' => ∀ h'', h'' = h'.srm (h15.rc - mc) (h15.rs - ms) → J r h''))) (fun r19 h20 => Bd s r19 h20 k))))) s0 h6 := by
  have hal : a < h.sz := Y.al
  have hdl : d < h.sz := Y.dl
  refine ⟨1, 4, ⟨hr, hs⟩, ?_⟩
  refine pc_iterator (h := h.srm 1 4) Y (Nat.le_refl _) (Nat.le_refl _) ?_
  intro h5 F5 I5 z5 _ _
  rintro h6 e6
  have F6 : Fr W0 h.c h6.c := by rw [e6]; exact F5
  have I6 : It h6.c h.sz a 0 := by rw [e6]; exact I5
  refine xlp_cnt n (fun i s U => Inv i s U ∧ Ls U.c a d m n xx ∧ It U.c h.sz a i) ⟨h0 h6 F6 (by rw [e6]; exact z5) (by rw [e6]; rfl) (by rw [e6]; rfl), Y.keep F6 id id id, I6⟩ ?_
  rintro i s U K hi ⟨v1, YU, IU⟩ hK
  rw [adr_some]
  refine ⟨fun r V => r = (if i = n then 0 else 1) ∧ V = U, .inl ⟨nn_of rfl IU.k, pc_hasNext (h := U.srm 0 0) YU IU hi (pu ⟨rfl, rfl⟩)⟩, ?_⟩
  rintro r V' ⟨rfl, rfl⟩
  by_cases ei : i = n
  · subst ei
    rw [if_pos rfl]
    exact brT rfl (hE s V' v1)
  rw [if_neg ei]
  have hin : i < n := by omega
  refine brF (by decide) ⟨fun r V2 => r = some (xx i) ∧ Inv i s V2 ∧ Ls V2.c a d m n xx ∧ It V2.c h.sz a (i + 1), .inl ⟨nn_of rfl IU.k, 0, 0, ⟨Nat.zero_le _, Nat.zero_le _⟩, ?_⟩, ?_⟩
  · refine pc_next (h := V'.srm 0 0) YU IU hin (by omega) ?_
    intro h' F' It' _ _ z' h'' e''
    have F'' : Fr (WIt h.sz) V'.c h''.c := by rw [e'']; exact F'
    refine ⟨rfl, hS i s V' h'' v1 F'' (by rw [e'']; rfl) (by rw [e'']; rfl) (by rw [e'']; exact z'), YU.keep F'' (fun hh => by have := hh.1; omega) (fun hh => by have := hh.1; omega) (fun hh => by have := hh.1; omega), by rw [e'']; exact It'⟩
  · rintro r V2 ⟨rfl, v2, Y2, I2⟩
    refine hB i s V2 K hin v2 (fun s' h'' hv F => hK _ _ hin ⟨hv, Y2.keep F hW.2.2.2.1 hW.2.2.1 hW.2.2.2.2, I2.keep Y2.al F (hW.1 _ _ (by simp)) (hW.1 _ _ (by simp)) (hW.1 _ _ (by simp)) hW.2.1⟩)
theorem TrR.w0 {c c' : HC} (R : TrR c L D A.g V o) (F : Fr W0 c c') : TrR c' L D A.g V o := R.keep F (fun _ _ _ => id) id id id (fun _ _ => id)
/-- sizes of the first kids. -/
theorem trK.sums (K : trK A V sz) {k : Nat} (hk : k < V.n) : 1 + sN (fun j => sz (V.kd k (j + 1))) (A.g.kn (V.pd k)) = sz k := by
  have N := K.nd k hk
  have key : ∀ j, j < A.g.kn (V.pd k) → V.kd k (j + 1) = k + 1 + sN (fun j => sz (V.kd k (j + 1))) j := by
    intro j
    induction j with
    | zero => intro hj; exact N.c1 hj
    | succ j ih =>
      intro hj
      have e := ih (by omega)
      have c2 : V.kd k (j + 1 + 1) = V.kd k (j + 1) + sz (V.kd k (j + 1)) := N.c2 (j + 1) (by omega) hj
      have es : sN (fun j => sz (V.kd k (j + 1))) (j + 1) = sN (fun j => sz (V.kd k (j + 1))) j + sz (V.kd k (j + 1)) := rfl
      omega
  have c3 : k + sz k = if A.g.kn (V.pd k) = 0 then k + 1 else V.kd k (A.g.kn (V.pd k)) + sz (V.kd k (A.g.kn (V.pd k))) := N.c3
  cases hn : A.g.kn (V.pd k) with
  | zero =>
    rw [hn, if_pos rfl] at c3
    show 1 + 0 = sz k
    omega
  | succ n =>
    rw [hn, if_neg (by omega)] at c3
    have e := key n (by omega)
    have es : sN (fun j => sz (V.kd k (j + 1))) (n + 1) = sN (fun j => sz (V.kd k (j + 1))) n + sz (V.kd k (n + 1)) := rfl
    omega
theorem sN_mono {f : Nat → Nat} {a : Nat} : ∀ {b : Nat}, a ≤ b → sN f a ≤ sN f b
  | 0, h => by rw [show a = 0 by omega]; exact Nat.le_refl _
  | b + 1, h => by
    by_cases e : a = b + 1
    · rw [e]; exact Nat.le_refl _
    · exact Nat.le_trans (sN_mono (show a ≤ b by omega)) (Nat.le_add_right _ _)
theorem px_below (K : trK A V sz) : ∀ (d k : Nat) (h : AH) (Q : Int32 → AH → Prop), k < V.n → 12 ≤ d + V.dp k → TrR h.c L D A.g V o → sz k ≤ h.rc → 4 * sz k ≤ h.rs → (∀ h', Fr W0 h.c h'.c → h'.rc = h.rc - sz k → h'.rs = h.rs - 4 * sz k → Q (I (sz k)) h') → wp_X15_below d (D.r k) h Q
  | 0, k, h, Q, hk, hd, _, _, _, _ => by have := (K.nd k hk).d; have e : V.dp k < 12 := this; omega
  | d + 1, k, h, Q, hk, hd, R, hc, hs, hQ => by
    have h40 := K.n40
    have N := R.nd k hk
    have s1 : 1 ≤ sz k := (K.nd k hk).s1
    have s2 : k + sz k ≤ V.n := (K.nd k hk).s2
    have hsum := K.sums hk
    have hkn : ∀ j, j < A.g.kn (V.pd k) → V.kd k (j + 1) < V.n ∧ V.dp (V.kd k (j + 1)) = V.dp k + 1 := fun j hj => by
      have c := (K.nd k hk).c (j + 1) (by omega) (show j + 1 ≤ A.g.kn (V.pd k) by omega)
      have c1 : V.kd k (j + 1) < k + sz k := c.1.2
      exact ⟨by omega, c.2.2.2.2.2⟩
    have hmono : ∀ m, m ≤ A.g.kn (V.pd k) → sN (fun j => sz (V.kd k (j + 1))) m ≤ sN (fun j => sz (V.kd k (j + 1))) (A.g.kn (V.pd k)) := fun m hm => sN_mono hm
    have e6 : h.fr 1506 (D.r k) = some (D.cl k) := N.ch
    show wo_X15_below (wp_X15_below d) (D.r k) h Q
    unfold wo_X15_below
    rw [e6, adr_some]
    refine ⟨nn_of rfl N.k, nn_of rfl N.ls.k, ?_⟩
    refine eachW N.ls (by omega) (by omega) W0 (fun i s U => s = I (1 + sN (fun j => sz (V.kd k (j + 1))) i) ∧ Fr W0 h.c U.c ∧ U.rc + (1 + sN (fun j => sz (V.kd k (j + 1))) i) = h.rc ∧ U.rs + 4 * (1 + sN (fun j => sz (V.kd k (j + 1))) i) = h.rs) ⟨fun _ _ _ => id, id, id, id, id⟩ ?_ ?_ ?_ ?_
    · intro h6 F6 _ c6 s6
      exact ⟨rfl, F6, by show _ + (1 + 0) = _; omega, by show _ + 4 * (1 + 0) = _; omega⟩
    · rintro i s U U' ⟨e, F, r1, r2⟩ FU c1 c2 _
      refine ⟨e, F.trans' FU (fun f b hb hh => ?_), by rw [c1]; exact r1, by rw [c2]; exact r2⟩
      have h1 := hh.1
      have h2 : b < h.sz := hb
      omega
    · rintro s h' ⟨e, F, r1, r2⟩
      rw [hsum] at e r1 r2
      rw [e]
      exact hQ h' F (by omega) (by omega)
    · rintro i s h' KK hi ⟨e, F, r1, r2⟩ hK
      have RU := R.w0 F
      obtain ⟨hkl, hdp⟩ := hkn i hi
      have Nk := RU.nd _ hkl
      have hm := hmono (i + 1) (by omega)
      have es : sN (fun j => sz (V.kd k (j + 1))) (i + 1) = sN (fun j => sz (V.kd k (j + 1))) i + sz (V.kd k (i + 1)) := rfl
      refine ⟨.inr (nn_of rfl Nk.k), nn_of rfl Nk.k, sz (V.kd k (i + 1)), 4 * sz (V.kd k (i + 1)), ⟨by omega, by omega⟩, ?_⟩
      rw [adr_some]
      refine px_below K d _ (h'.srm _ _) _ hkl (by omega) RU (Nat.le_refl _) (Nat.le_refl _) ?_
      intro h2 F2 c2 s2' h3 e3
      have F3 : Fr W0 h'.c h3.c := by rw [e3]; exact F2
      refine hK _ h3 ⟨?_, F.trans F3, ?_, ?_⟩ F3
      · rw [e, es, ← Nat.add_assoc]; exact I_add _ _
      · rw [e3]; show h'.rc - _ + _ = _; omega
      · rw [e3]; show h'.rs - _ + _ = _; omega
theorem q_digest (R : CRep h.c o jn tpa X) (hc : 40 ≤ h.rc) (hs : 2000 ≤ h.rs) (hQ : ∀ h', CRep h'.c o jn tpa (X.ws (qDigest X).2) → Q (qDigest X).1 h') : wp_X0_digest o h Q := by
  unfold wp_X0_digest
  unfold qDigest at hQ
  refine ⟨R.B.nn, ?_⟩
  cases ht : X.tr with
  | none =>
    rw [ht] at hQ
    rintro m rfl
    rw [if_pos (show h.fr 105 o = none from R.t0 ht)]
    exact qc0 R (fun h' R' _ _ => brT (by decide) (hQ h' R'))
  | some q =>
    obtain ⟨V, sz, gv⟩ := q
    rw [ht] at hQ
    dsimp only at hQ
    obtain ⟨A, ind, hg, K⟩ := R.gt ht
    obtain ⟨g0, L0, z0, D0, _, _, _, _, _, _, _, _, _, T0⟩ := R.tx hg ht
    have e5 : h.fr 105 o = some D0.t := T0.R.I.K.R.xt
    rintro m rfl
    rw [if_neg (by rw [e5]; simp)]
    refine qc0 R (fun h' R' c' s' => brF (by decide) ⟨R'.B.nn, ?_⟩)
    obtain ⟨g, L, w, D, i, B, tu, un, s, ga, v, a1, C, T⟩ := R'.tx (X := X.ws 0) hg ht
    have TT := T.R.I.K.R
    have e5' : h'.fr 105 o = some D.t := TT.xt
    have h40 := K.n40
    have s0 := K.s0
    have n1 := K.n1
    rw [e5', adr_some]
    rw [AX.S_eq hg ht] at hQ
    have IS := istO_I gv C.W K.WF C.Y
    generalize hSS : istO A.g V gv = S at *
    refine ⟨nn_of rfl TT.tk, 2, 4, ⟨by omega, by omega⟩, px_itT (h := h'.srm 2 4) (by omega) TT T.rt (Nat.le_refl _) (Nat.le_refl _) ?_⟩
    intro h1 F1 I1 z1 _ _ h2 e2
    have F2 : Fr W0 h'.c h2.c := by rw [e2]; exact F1
    have I2 : It2 h2.c D (h'.sz + 1) h'.sz 0 0 := by rw [e2]; exact I1
    have hz : (h'.srm 2 4).sz = h'.sz := rfl
    rw [hz]
    refine eachT (L := L) (o := o) K (k := 0) (by omega) (fun _ _ => False) (fun i s U => s = dgs S (8 * i) ∧ Fr W0 h'.c U.c) I2 ⟨rfl, F2⟩ (fun i s U hh => TT.w0 hh.2) ⟨id, id, id, id⟩ ?_ ?_ ?_
    · rintro i s U U' ⟨e, F⟩ FU _ _ _
      refine ⟨e, F.trans' FU (fun f b hb hh => ?_)⟩
      have h1 := hh.2
      have h2 : b < h'.sz := hb
      omega
    · rintro s h3 ⟨e, F⟩
      rw [s0] at e
      rw [e]
      exact hQ h3 (R'.w0 F)
    · rintro i s h3 KK hi ⟨e, F⟩ hK
      rw [s0] at hi
      rw [Nat.zero_add]
      have T3 := TT.w0 F
      have C3 := C.keep F (fun _ _ hh => hh.elim)
      have N := T3.nd i hi
      have hsm := K.WF.smS C.W hi
      have SY := C3.X.S.sy _ hsm
      have hc8 := C.W.cnt8 hsm
      refine ⟨.inr (nn_of rfl N.k), ?_⟩
      have dg : ∀ j, j < 8 → dgs S (8 * i + (j + 1)) = if j < A.g.cnt (V.sm A.g i) then 31 * dgs S (8 * i + j) + S.val (8 * i + j) else dgs S (8 * i + j) := by
        intro j hj
        have hV : S.V (8 * i + j) ↔ j < A.g.cnt (V.sm A.g i) := by
          rw [IS.vv]
          show ((8 * i + j) / 8 < V.n ∧ (8 * i + j) % 8 < A.g.cnt (V.sm A.g ((8 * i + j) / 8))) ↔ _
          rw [show (8 * i + j) / 8 = i by omega, show (8 * i + j) % 8 = j by omega]
          exact ⟨fun hh => hh.2, fun hh => ⟨hi, hh⟩⟩
        show cif (S.V (8 * i + j)) _ _ = _
        by_cases hl : j < A.g.cnt (V.sm A.g i)
        · rw [cif_pos (hV.2 hl), if_pos hl]; rfl
        · rw [cif_neg (fun hh => hl (hV.1 hh)), if_neg hl]; rfl
      have rest : ∀ m, m ≤ 8 - A.g.cnt (V.sm A.g i) → dgs S (8 * i + (A.g.cnt (V.sm A.g i) + m)) = dgs S (8 * i + A.g.cnt (V.sm A.g i)) := by
        intro m
        induction m with
        | zero => intro _; rfl
        | succ m ih =>
          intro hm
          have := dg (A.g.cnt (V.sm A.g i) + m) (by omega)
          rw [if_neg (by omega)] at this
          rw [show A.g.cnt (V.sm A.g i) + (m + 1) = A.g.cnt (V.sm A.g i) + m + 1 by omega, this]
          exact ih (by omega)
      refine xlp_cnt (A.g.cnt (V.sm A.g i)) (fun j s U => U = h3 ∧ s = (dgs S (8 * i + j), I j)) ⟨rfl, by rw [e]; rfl⟩ ?_
      rintro j s' U K2 hj ⟨rfl, rfl⟩ hK2
      refine ⟨nn_of rfl N.k, ?_⟩
      rw [adr_some]
      refine px_kind (h := U.srm 0 0) K.WF C.W C3.X.S T3 hi (pu ⟨nn_of rfl SY.k, ?_⟩)
      rw [adr_some]
      refine px_count (h := U.srm 0 0) SY (pu ?_)
      by_cases ej : j = A.g.cnt (V.sm A.g i)
      · subst ej
        refine brT ((I_le (by omega) (by omega)).2 (Nat.le_refl _)) (hK _ _ ⟨?_, F⟩ (Fr.refl _))
        have := rest (8 - A.g.cnt (V.sm A.g i)) (Nat.le_refl _)
        rw [show A.g.cnt (V.sm A.g i) + (8 - A.g.cnt (V.sm A.g i)) = 8 by omega] at this
        rw [show 8 * (i + 1) = 8 * i + 8 by omega, this]
      · have hjl : j < A.g.cnt (V.sm A.g i) := by omega
        refine brF (fun hh => by have := (I_le (by omega) (by omega)).1 hh; omega) ⟨nn_of rfl N.k, ?_⟩
        have va : U.fr 1507 (D.r i) = some (D.va i) := N.va
        have hi' : V.is A.g (8 * i + j) := by
          show (8 * i + j) / 8 < V.n ∧ (8 * i + j) % 8 < A.g.cnt (V.sm A.g ((8 * i + j) / 8))
          rw [show (8 * i + j) / 8 = i by omega, show (8 * i + j) % 8 = j by omega]
          exact ⟨hi, hjl⟩
        obtain ⟨q, hq1, hq⟩ := T.R.I.F.a _ hi'
        have ev : U.ai (D.va i) j = S.val (8 * i + j) := by
          rw [show U.ai (D.va i) = h'.ai (D.va i) from F.ai _ (TT.nd i hi).vl id, show h'.ai (D.va i) j = v (8 * i + j) from T.Va i j hi (by omega), T.N.a _ q hq hq1, hSS]
        have nvk : U.kd (D.va i) = (40, 8) := N.vk
        dsimp only
        rw [va]
        refine ⟨ix_of rfl nvk (by omega) (by decide), ?_⟩
        rw [adr_some, I_ni (by omega), ev]
        refine hK2 _ _ (by omega) ⟨rfl, Prod.ext ?_ (I_add j 1)⟩
        have := dg j (by omega)
        rw [if_pos hjl] at this
        exact this.symm
end
