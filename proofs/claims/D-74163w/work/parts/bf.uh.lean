/-! plain: uh -/
set_option maxRecDepth 100000
section
variable {h : AH} {o : Nat} {L : GA} {A : PG} {g : Nat} {ind : Nat → Int32} {V : Tv} {sz : Nat → Nat} {gv : Nat → Int32} {D : TA}

theorem pc_set {a d m n : Nat} {x : Nat → Nat} (Y : Ls h.c a d m n x) {i v : Nat} (hi : i < n) (hv : stk 44 (h.kd v).1 = true) {Q : Option Nat → AH → Prop} (hQ : ∀ h', Fr (fun f b => f = 0 ∧ b = d) h.c h'.c → Ls h'.c a d m n (updN x i v) → h'.sz = h.sz → h'.rc = h.rc → h'.rs = h.rs → Q (some (x i)) h') : wp_J12_set a (I i) (some v) h Q := by
  have hm := Y.mb
  have hnm := Y.nm
  have hsz : h.fi 2302 a = I n := Y.sz
  have he : h.fr 2301 a = some d := Y.e
  refine ⟨nn_of rfl Y.k, ?_⟩
  rw [hsz]
  refine pc_checkIndex hi (by omega) ?_
  intro h3 e3
  rw [srm_back] at e3; subst e3
  intro h4 e4
  rw [srm_back] at e4; subst e4
  refine ⟨nn_of rfl Y.k, ?_⟩
  refine ⟨nn_of rfl Y.k, ix_of he Y.dk (by omega) (by omega), ?_⟩
  intro h8 e8
  rw [srm_back] at e8; subst e8
  refine ⟨nn_of rfl Y.k, ix_of he Y.dk (by omega) (by omega), .inr ⟨v, rfl, hv⟩, ?_⟩
  intro h10 e10
  rw [he, adr_some, I_ni (by omega)] at e10
  have e9 : (h8.srm 0 0).ar (adr ((h8.srm 0 0).fr 2301 a)) (ni (I i)) = some (x i) := by
    show h8.ar (adr (h8.fr 2301 a)) (ni (I i)) = _
    rw [he, adr_some, I_ni (by omega)]; exact Y.el i hi
  rw [e9]
  have F : Fr (fun f b => f = 0 ∧ b = d) h8.c h10.c := by rw [e10]; exact (Fr.refl _).sar _ _ (fun _ => ⟨rfl, rfl⟩)
  refine hQ h10 F ⟨by rw [e10]; exact Y.k, by rw [e10]; exact Y.al, by rw [e10]; exact Y.sz, by rw [e10]; exact Y.e, by rw [e10]; exact Y.dk, by rw [e10]; exact Y.dl, Y.nm, Y.mb, fun j hj => ?_⟩ (by rw [e10]; rfl) (by rw [e10]; rfl) (by rw [e10]; rfl)
  show h10.ar d j = _
  rw [e10, sar_ar, if_pos rfl]
  by_cases e : j = i
  · rw [e, updN_same, updN_same]
  · rw [updN_ne _ _ e, updN_ne _ _ e]; exact Y.el j hj
theorem Fr.war {W : Nat → Nat → Prop} {c : HC} {h : AH} (H : Fr W c h.c) {a : Nat} (f : Nat → Option Nat) (hW : a < c.sz → W 0 a) : Fr W c (h.war a f).c :=
  ⟨H.sz, H.bs, H.kd, H.fi, H.fr, H.ai, fun b hb hw => by
    have : b ≠ a := fun e => hw (by rw [e]; exact hW (e ▸ hb))
    show (if b = a then f else h.ar b) = _
    rw [if_neg this]; exact H.ar b hb hw⟩
theorem pc_fastRemove {a d m n : Nat} {x : Nat → Nat} (Y : Ls h.c a d m n x) (O : LsO h.c n x) {j : Nat} (hj : j < n) {Q : AH → Prop} (hQ : ∀ h', Fr (WL a d) h.c h'.c → Ls h'.c a d m (n - 1) (fun i => if i < j then x i else x (i + 1)) → h'.sz = h.sz → h'.rc = h.rc → h'.rs = h.rs → Q h') : wp_J12_fastRemove a (some d) (I j) h Q := by
  have hm := Y.mb
  have hnm := Y.nm
  have hsz : h.fi 2302 a = I n := Y.sz
  have hkd : h.kd d = (44, m) := Y.dk
  unfold wp_J12_fastRemove
  refine ⟨nn_of rfl Y.k, ?_⟩
  intro h2 e2
  have F2 : Fr (WL a d) h.c h2.c := by rw [e2]; exact (Fr.refl _).sfi _ (fun _ => .inl ⟨rfl, .inl rfl⟩)
  have s2 : h2.fi 2302 a = I n := by rw [e2, sfi_ne _ _ _ _ (by decide)]; exact hsz
  have ar2 : h2.ar = h.ar := by rw [e2]; rfl
  have kd2 : h2.kd = h.kd := by rw [e2]; rfl
  have e1 : I n - 1 = I (n - 1) := I_sub (a := n) (b := 1) (by omega)
  rw [s2, e1]
  refine ⟨fun _ U => Fr (WL a d) h.c U.c ∧ U.sz = h.sz ∧ U.rc = h.rc ∧ U.rs = h.rs ∧ U.kd = h.kd ∧ U.fr 2301 a = some d ∧ ∀ i, i < n - 1 → U.ar d i = some (if i < j then x i else x (i + 1)), ?_, ?_⟩
  · by_cases ej : j = n - 1
    · refine brT (by rw [ej]; exact (I_le (by omega) (by omega)).2 (Nat.le_refl _)) ⟨F2, by rw [e2]; rfl, by rw [e2]; rfl, by rw [e2]; rfl, kd2, by rw [e2]; exact Y.e, fun i hi => ?_⟩
      rw [ar2, if_pos (by omega)]; exact Y.el i (by omega)
    · have e3 : I j + 1 = I (j + 1) := I_add j 1
      have e4 : I (n - 1) - I j = I (n - 1 - j) := I_sub (by omega)
      rw [e3, e4, adr_some, I_ni (show j + 1 < 2147483648 by omega), I_ni (show j < 2147483648 by omega), I_ni (show n - 1 - j < 2147483648 by omega)]
      refine brF (fun hh => by have := (I_le (by omega) (by omega)).1 hh; omega) ⟨⟨d, d, rfl, rfl, by rw [kd2, hkd], by rw [kd2, hkd], I_nonneg (by omega), I_nonneg (by omega), I_nonneg (by omega), ?_, ?_⟩, fun i hi y hy => ?_, ?_⟩
      · rw [I_ni (by omega), I_ni (by omega), kd2, hkd]; show j + 1 + (n - 1 - j) ≤ m; omega
      · rw [I_ni (by omega), I_ni (by omega), kd2, hkd]; show j + (n - 1 - j) ≤ m; omega
      · rw [ar2, show h.ar d (j + 1 + i) = some (x (j + 1 + i)) from Y.el _ (by omega)] at hy
        unfold anyO
        rw [← Option.some.inj hy, kd2]
        exact (O _ (by omega)).2
      · intro h6 e6
        refine ⟨by rw [e6]; exact F2.war _ (fun _ => .inr ⟨rfl, rfl⟩), by rw [e6, e2]; rfl, by rw [e6, e2]; rfl, by rw [e6, e2]; rfl, by rw [e6]; exact kd2, by rw [e6, e2]; exact Y.e, fun i hi => ?_⟩
        rw [e6, war_ar, if_pos rfl, ar2]
        unfold va_cpy
        by_cases hij : i < j
        · rw [if_neg (by omega), if_pos hij]; exact Y.el i (by omega)
        · rw [if_pos ⟨by omega, by omega⟩, if_neg hij, show j + 1 + (i - j) = i + 1 by omega]; exact Y.el _ (by omega)
  · rintro _ U ⟨F, z1, c1, r1, k1, f1, a1⟩
    have al : a < h.sz := Y.al
    have k23 : (U.kd a).1 = 23 := by rw [k1]; exact Y.k
    refine ⟨nn_of rfl k23, ?_⟩
    intro h10 e10
    have k10 : h10.kd d = (44, m) := by rw [e10]; show U.kd d = _; rw [k1]; exact hkd
    refine ⟨ix_of rfl k10 (by omega) (by omega), .inl rfl, ?_⟩
    rw [adr_some, I_ni (by omega)]
    intro h11 e11
    refine hQ h11 (by rw [e11, e10]; exact (F.sfi _ (fun _ => .inl ⟨rfl, .inr (.inr rfl)⟩)).sar _ _ (fun _ => .inr ⟨rfl, rfl⟩)) ⟨by rw [e11, e10]; exact k23, by rw [e11, e10]; show a < U.sz; omega, ?_, by rw [e11, e10]; exact f1, by rw [e11]; exact k10, by rw [e11, e10]; show d < U.sz; have : d < h.sz := Y.dl; omega, by omega, Y.mb, fun i hi => ?_⟩ (by rw [e11, e10]; exact z1) (by rw [e11, e10]; exact c1) (by rw [e11, e10]; exact r1)
    · show h11.fi 2302 a = _
      rw [e11]
      show h10.fi 2302 a = _
      rw [e10, sfi_same]
    · show h11.ar d i = _
      rw [e11, sar_ar, if_pos rfl, updN_ne _ _ (by omega), e10]
      exact a1 i hi
theorem pc_remove {a d m n : Nat} {x : Nat → Nat} (Y : Ls h.c a d m n x) (O : LsO h.c n x) (hn : n ≤ 1000) {w j : Nat} (hw : (h.kd w).1 = 15) (hj : j < n) (ej : x j = w) (hne : ∀ i, i < j → x i ≠ w) {Q : Int32 → AH → Prop} (hQ : ∀ h', Fr (WL a d) h.c h'.c → Ls h'.c a d m (n - 1) (fun i => if i < j then x i else x (i + 1)) → h'.sz = h.sz → h'.rc = h.rc → h'.rs = h.rs → Q 1 h') : wp_J12_remove a (some w) h Q := by
  have hsz : h.fi 2302 a = I n := Y.sz
  have he : h.fr 2301 a = some d := Y.e
  have hmb := Y.mb
  have hnm := Y.nm
  unfold wp_J12_remove
  refine ⟨nn_of rfl Y.k, brF (by simp) ?_⟩
  rw [hsz, he]
  refine xlp_cnt j (fun i s U => s = I i ∧ U = h) ⟨rfl, rfl⟩ ?_
  rintro i s U K hi ⟨e1, e2⟩ hK
  rw [e1, e2]
  refine brF (fun hh => by have := (I_le (by omega) (by omega)).1 hh; omega) ⟨ix_of rfl (show h.kd d = (44, m) from Y.dk) (by omega) (by omega), ?_⟩
  rw [adr_some d, I_ni (by omega), show h.ar d i = some (x i) from Y.el i (by omega)]
  refine ⟨fun r T => r = (if some w = some (x i) then 1 else 0) ∧ T = h, .inr (.inr (.inr ⟨nn_of rfl hw, rfl, rfl⟩)), ?_⟩
  rintro r T ⟨rfl, rfl⟩
  by_cases ei : i = j
  · subst ei
    rw [if_pos (by rw [ej])]
    refine brF (by decide) ⟨nn_of rfl Y.k, pc_fastRemove (h := T.srm 0 0) Y O hj ?_⟩
    intro h' F L' z' c' r' h14 e14
    refine hQ h14 (by rw [e14]; exact F) (by rw [e14]; exact L') (by rw [e14]; exact z') (by rw [e14]; rfl) (by rw [e14]; rfl)
  · have hne' := hne i (by omega)
    rw [if_neg (fun hh => hne' (Option.some.inj hh).symm)]
    exact brT rfl (hK _ _ (by omega) ⟨I_add i 1, rfl⟩)
/-- knots that have one of some nodes. -/
def ktQ (A : PG) (V : Tv) (s : TjS) (k e q : Nat) : Prop := ∃ j, 8 * k ≤ j ∧ j < e ∧ V.is A.g j ∧ s.kn j = some q ∧ s.kt q = true
theorem px_knotsOf {S : Ist} (IS : IsI S A.g V gv) (K : trK A V sz) {i0 : Nat} {B : IA} {tu un : Nat} {s : TjS} {ga : Nat} (C : CgR h.c L A g ind) (R : RkB h.c L D A.g V o i0 B tu un s ga gv) (x6 : h.fr 106 o = some i0) {k : Nat} (hk : k < V.n) (hc : 3 ≤ h.rc) (hs : 324 ≤ h.rs) {Q : Option Nat → AH → Prop}
    (hQ : ∀ h', Fr W0 h.c h'.c → h'.kd h.sz = (42, 320) → h.sz + 3 ≤ h'.sz → (∀ q, q < 320 → h'.ai h.sz q = iP (ktQ A V s k (8 * (k + sz k)) q)) → h'.rc = h.rc - 3 → h'.rs = h.rs - 324 → Q (some h.sz) h') : wp_X0_knotsOf o (some (D.r k)) h Q := by
  have TT := R.I.K.R
  have h40 := K.n40
  have WF := K.WF
  have ol : o < h.sz := TT.xl
  obtain ⟨ar, ear⟩ : ∃ ar, ar = h.sz := ⟨_, rfl⟩
  unfold wp_X0_knotsOf
  rw [show ni 320 = 320 from rfl]
  refine ⟨⟨by decide, by decide, by omega, by rw [show ni 320 = 320 from rfl]; omega⟩, ?_⟩
  rw [← ear] at hQ ⊢
  intro h1 e1
  have F1 : Fr W0 h.c h1.c := by rw [e1]; exact (Fr.refl _).new _ _ _
  have z1 : h1.sz = ar + 1 := by rw [e1, ear]; rfl
  have k1 : h1.kd ar = (42, 320) := by rw [e1, ear, new_kd, if_pos rfl]
  have a1 : ∀ q, h1.ai ar q = 0 := fun q => by rw [e1, ear, new_ai, if_pos rfl]
  have c1 : h1.rc = h.rc - 1 := by rw [e1]; rfl
  have s1 : h1.rs = h.rs - 320 := by rw [e1]; rfl
  have T1 := TT.w0 F1
  have xt1 : h1.fr 105 o = some D.t := T1.xt
  rw [xt1, adr_some]
  refine ⟨nn_of rfl T1.xk, nn_of rfl T1.tk, 1, 2, ⟨by omega, by omega⟩, px_from (h := h1.srm 1 2) (Nat.le_refl _) (Nat.le_refl _) ?_⟩
  intro h5 F5 k5 q1 q0 z5 _ _ h6 e6
  have ez1 : (h1.srm 1 2).sz = h1.sz := rfl
  rw [ez1] at k5 q1 q0 z5 ⊢
  have F6 : Fr W0 h1.c h6.c := by rw [e6]; exact F5
  have z6 : h6.sz = ar + 2 := by rw [e6]; show h5.sz = _; omega
  have c6 : h6.rc = h.rc - 2 := by rw [e6]; show h1.rc - 1 = _; omega
  have s6 : h6.rs = h.rs - 322 := by rw [e6]; show h1.rs - 2 = _; omega
  have T6 := T1.w0 F6
  rw [z1] at k5 q1 q0 ⊢
  refine ⟨fun r U => r = some (ar + 2) ∧ Fr W0 h6.c U.c ∧ It2 U.c D (ar + 2) (ar + 1) k k ∧ U.sz = ar + 3 ∧ U.rc = h.rc - 3 ∧ U.rs = h.rs - 324, .inr ⟨nn_of rfl (by rw [e6]; exact k5), 1, 2, ⟨by omega, by omega⟩, ?_⟩, ?_⟩
  · rw [adr_some]
    refine px_it19 (h := h6.srm 1 2) hk T6 (by rw [e6]; exact k5) (by show ar + 1 < h6.sz; omega) (by rw [e6]; exact q1) (by rw [e6]; exact q0) (Nat.le_refl _) (Nat.le_refl _) ?_
    intro h7 F7 I7 z7 _ _ h8 e8
    have ez6 : (h6.srm 1 2).sz = h6.sz := rfl
    rw [ez6, z6] at I7 ⊢
    rw [ez6] at z7
    exact ⟨rfl, by rw [e8]; exact F7, by rw [e8]; exact I7, by rw [e8]; show h7.sz = _; omega, by rw [e8]; show h6.rc - 1 = _; omega, by rw [e8]; show h6.rs - 2 = _; omega⟩
  rintro r U0 ⟨rfl, FU0, IU0, zU0, cU0, sU0⟩
  have G0 : Fr W0 h1.c U0.c := F6.trans FU0
  refine eachT (L := L) (o := o) K hk (fun f a => f = 0 ∧ a = ar) (fun i _ U => Fr W0 h.c U.c ∧ U.kd ar = (42, 320) ∧ ar + 3 ≤ U.sz ∧ U.rc = h.rc - 3 ∧ U.rs = h.rs - 324 ∧ ∀ q, q < 320 → U.ai ar q = iP (ktQ A V s k (8 * (k + i)) q)) IU0 ⟨F1.trans G0, (G0.kd ar (by show ar < h1.sz; omega)).trans k1, by omega, cU0, sU0, fun q hq => ?_⟩ (fun i s' U hh => TT.w0 hh.1) ⟨fun hh => by omega, fun hh => by omega, fun hh => by omega, fun hh => by omega⟩ ?_ ?_ ?_
  · have e9 : U0.ai ar = h1.ai ar := G0.ai ar (by show ar < h1.sz; omega) id
    rw [e9, a1]
    exact (iP_neg (fun ⟨j, b1, b2, _⟩ => by omega)).symm
  · rintro i s' U U' ⟨F, kU, zU, cU, sU, aU⟩ FW c' r' z'
    refine ⟨F.trans' FW (fun f b hb hh => ?_), (FW.kd ar (by show ar < U.sz; omega)).trans kU, by omega, by omega, by omega, fun q hq => ?_⟩
    · have h1 : b < h.sz := hb
      have h2 := hh.2
      omega
    · have e9 : U'.ai ar = U.ai ar := FW.ai ar (by show ar < U.sz; omega) (fun hh => by have := hh.1; omega)
      rw [e9]; exact aU q hq
  · rintro s' h' ⟨F, kU, zU, cU, sU, aU⟩
    exact hQ h' F kU zU aU cU sU
  · rintro i s' h3 KK hi ⟨F, kU, zU, cU, sU, aU⟩ hK
    have hkz := (K.ends hk).2
    have hin : k + i < V.n := by omega
    have hsm := WF.smS C.W hin
    have hc8 := C.W.cnt8 hsm
    obtain ⟨nO, enO⟩ : ∃ nO, nO = A.g.cnt (V.sm A.g (k + i)) := ⟨_, rfl⟩
    have isj : ∀ a, a < 8 → (V.is A.g (8 * (k + i) + a) ↔ a < nO) := fun a ha => by
      show ((8 * (k + i) + a) / 8 < V.n ∧ (8 * (k + i) + a) % 8 < A.g.cnt (V.sm A.g ((8 * (k + i) + a) / 8))) ↔ _
      rw [show (8 * (k + i) + a) / 8 = k + i by omega, show (8 * (k + i) + a) % 8 = a by omega, ← enO]
      exact ⟨fun hh => hh.2, fun hh => ⟨hin, hh⟩⟩
    refine ⟨.inr (nn_of rfl ((TT.w0 F).nd _ hin).k), ?_⟩
    refine xlp_cnt nO (fun a q U => q = I a ∧ Fr W0 h.c U.c ∧ Fr (fun f b => f = 0 ∧ b = ar) h3.c U.c ∧ U.kd ar = (42, 320) ∧ ar + 3 ≤ U.sz ∧ U.rc = h.rc - 3 ∧ U.rs = h.rs - 324 ∧ ∀ q, q < 320 → U.ai ar q = iP (ktQ A V s k (8 * (k + i) + a) q)) ⟨rfl, F, Fr.refl _, kU, zU, cU, sU, aU⟩ ?_
    rintro a q U K2 ha ⟨eq, FU, FF, kU, zU, cU, sU, aU⟩ hK2
    have TU := TT.w0 FU
    have CU := C.keep FU (fun _ _ hh => hh.elim)
    have RU := R.keep5 FU (fun _ _ hh => hh.elim)
    have N := TU.nd _ hin
    have SY := CU.X.S.sy _ hsm
    rw [eq, adr_some]
    refine ⟨nn_of rfl N.k, px_kind (h := U.srm 0 0) WF CU.W CU.X.S TU hin (pu ⟨nn_of rfl SY.k, px_count (h := U.srm 0 0) SY (pu ?_)⟩)⟩
    rw [← enO]
    by_cases ea : a = nO
    · refine brT (by rw [ea]; exact (I_le (by omega) (by omega)).2 (Nat.le_refl _)) (hK _ U ⟨FU, kU, zU, cU, sU, fun q hq => ?_⟩ FF)
      rw [aU q hq]
      refine iP_congr ⟨fun ⟨j, b1, b2, b3⟩ => ⟨j, b1, by omega, b3⟩, fun ⟨j, b1, b2, b3, b4⟩ => ⟨j, b1, ?_, b3, b4⟩⟩
      refine Nat.lt_of_not_le (fun hge => ?_)
      have h8 : j = 8 * (k + i) + (j - 8 * (k + i)) := by omega
      rw [h8] at b3
      have := (isj (j - 8 * (k + i)) (by omega)).1 b3
      omega
    have ha' : a < nO := by omega
    have hj := (isj a (by omega)).2 ha'
    obtain ⟨j, ej⟩ : ∃ j, j = 8 * (k + i) + a := ⟨_, rfl⟩
    have e52 : U.fi 1502 (D.r (k + i)) = I (k + i) := N.ix
    have x6U : U.fr 106 o = some i0 := (FU.fr 106 o TT.xl id).trans x6
    have f1 : U.fr 1701 i0 = some B.kn := RU.I.K.Y.f1
    have ev : (8 : Int32) * I (k + i) + I a = I j := by rw [show (8 : Int32) * I (k + i) = I (8 * (k + i)) from I_mul 8 _, I_add, ej]
    rw [x6U, adr_some, e52, ev]
    rw [← ej] at hj
    have hlt := WF.isLt hj
    have h320 := RU.I.F.n
    obtain ⟨q0, hq0, eq0⟩ := RU.I.F.a j hj
    have hkt : s.kt q0 = true ↔ Trc S.E j j := by rw [IS.ee]; exact RU.I.F.f j q0 eq0
    refine brF (fun hh => by have := (I_le (by omega) (by omega)).1 hh; omega) ⟨nn_of rfl TU.xk, nn_of rfl N.k, nn_of rfl RU.I.K.J.k, px_inKnot (h := U.srm 0 0) IS WF RU.I hj (pu ?_)⟩
    by_cases ht : Trc S.E j j
    · rw [iP_pos ht]
      refine brF (by decide) ?_
      rw [x6U, adr_some, f1, adr_some, e52, ev, I_ni (by omega), show U.ai B.kn j = oI (s.kn j) from RU.I.R.kn j hlt, eq0, show oI (some q0) = I q0 from rfl, I_ni (by omega)]
      refine ⟨nn_of rfl TU.xk, nn_of rfl RU.I.K.J.k, nn_of rfl N.k, ix_of rfl RU.I.K.Y.k1 (by omega) (by decide), ix_of rfl kU (by omega) (by decide), ?_⟩
      intro h46 e46
      have en : vp_nar .boolean 1 = 1 := by have := iP_nar True; rw [iP_pos trivial] at this; exact this
      rw [en] at e46
      refine hK2 _ _ ha' ⟨I_add a 1, by rw [e46]; exact FU.sai _ _ (fun hh => by have h9 : ar < h.sz := hh; omega), by rw [e46]; exact FF.sai _ _ (fun _ => ⟨rfl, rfl⟩), by rw [e46]; exact kU, by rw [e46]; exact zU, by rw [e46]; exact cU, by rw [e46]; exact sU, fun q hq => ?_⟩
      rw [e46, sai_ai, if_pos rfl]
      by_cases e : q = q0
      · rw [e, updN_same]
        exact (iP_pos ⟨j, by omega, by omega, hj, eq0, hkt.2 ht⟩).symm
      · rw [updN_ne _ _ e, aU q hq]
        refine iP_congr ⟨fun ⟨j', b1, b2, b3⟩ => ⟨j', b1, by omega, b3⟩, fun ⟨j', b1, b2, b3, b4, b5⟩ => ⟨j', b1, ?_, b3, b4, b5⟩⟩
        have : j' ≠ j := fun hh => by rw [hh, eq0] at b4; exact e (Option.some.inj b4).symm
        omega
    · rw [iP_neg ht]
      refine brT rfl (hK2 _ _ ha' ⟨I_add a 1, FU, FF, kU, zU, cU, sU, fun q hq => ?_⟩)
      rw [aU q hq]
      refine iP_congr ⟨fun ⟨j', b1, b2, b3⟩ => ⟨j', b1, by omega, b3⟩, fun ⟨j', b1, b2, b3, b4, b5⟩ => ⟨j', b1, ?_, b3, b4, b5⟩⟩
      have : j' ≠ j := fun hh => by
        rw [hh, eq0] at b4
        have e := Option.some.inj b4
        rw [← e] at b5
        exact ht (hkt.1 b5)
      omega
end
