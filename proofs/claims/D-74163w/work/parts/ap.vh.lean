/-! plain: vh -/
set_option maxRecDepth 100000
section
variable {h : AH} {o jn tpa : Nat} {X : AX} {x y z u : Int32} {L : GA} {A : PG} {g : Nat} {ind : Nat → Int32} {Q : Int32 → AH → Prop} {G : Gv}

theorem px_isOccR (W : G.WF) (S : GS h.c L G) {p : Nat} (hp : p < G.nP) (hQ : Q (iP (0 ≤ y ∧ G.oc p (ni y))) h) : wp_X6_isOcc (L.pa p) y h Q := by
  by_cases h0 : 0 ≤ y
  · have ey := nnx h0
    have key := px_isOcc (h := h) (Q := Q) W S hp (ni_lt y) (by
      by_cases ho : G.oc p (ni y)
      · rw [if_pos ho]; rw [iP_pos ⟨h0, ho⟩] at hQ; exact hQ
      · rw [if_neg ho]; rw [iP_neg (fun hh => ho hh.2)] at hQ; exact hQ)
    rw [← ey] at key
    exact key
  · unfold wp_X6_isOcc
    refine px_isIn (h := h.srm 0 0) (pu ?_)
    rw [if_neg (fun hh => h0 hh.1)]
    rw [iP_neg (fun hh => h0 hh.1)] at hQ
    exact brT rfl hQ
theorem px_rcl {T : AH} (W : G.WF) (S : GS T.c L G) {ind : Nat → Int32} (v : Bool) (hI : Ind T.c L G ind) {p : Nat} (hp : p < G.nP)
    (hV : v = true → ∀ k, k ≤ G.kn p → G.VB ind (G.sy p k) ∧ ∀ a, a < G.cnt (G.sy p k) → T.c.ai (L.sv (G.sy p k)) a = I (G.vo ind (G.sy p k) a)) (hr : 1 ≤ T.rc) (hs : 32 ≤ T.rs) {a b : Nat} (ha : a < 32) (hb : b < 32) {C : Int32 → AH → Prop}
    (hC : ∀ h', Fr W0 T.c h'.c → C (if bt (clo (G.rowF ind true v p) a) b then 1 else 0) h') :
    cl T fun mc ms => wp_X6_rows (L.pa p) 1 (if v then 1 else 0) (T.srm mc ms) fun r86 h87 => ∀ h88, h88 = h87.srm (T.rc - mc) (T.rs - ms) →
      wp_X0_closed r86 (h88.srm 0 0) fun r92 h93 => ∀ h94, h94 = h93.srm h88.rc h88.rs →
      ix h94 r92 40 (I a) ∧
      wp_X0_has (h94.ai (adr r92) (ni (I a))) (I b) (h94.srm 0 0) fun r90 h91 => ∀ h92, h92 = h91.srm h94.rc h94.rs →
      wp_X0_one r90 (h92.srm 0 0) fun r93 h94 => ∀ h95, h95 = h94.srm h92.rc h92.rs → C r93 h95 := by
  refine ⟨1, 32, ⟨hr, hs⟩, ?_⟩
  refine px_rows (h := T.srm 1 32) W S (ind := ind) true v (fun _ => hI) hp hV (Nat.le_refl _) (Nat.le_refl _) ?_
  intro h3 F3 z3 c3 s3 k3 r3
  rintro _ rfl
  refine px_closed (h := (h3.srm (T.rc - 1) (T.rs - 32)).srm 0 0) (a := T.sz) (n := 32) (r := h3.ai T.sz) k3 (Nat.le_refl _) (by decide) rfl ?_
  intro h9 F9 z9 c9 s9 r9 h10 e10
  have k9 : h9.kd T.sz = (40, 32) := by
    have : h9.c.kd T.sz = h3.c.kd T.sz := F9.kd T.sz (by show T.sz < h3.sz; rw [z3]; exact Nat.lt_succ_self _)
    rw [← k3]; exact this
  have F9' : Fr W0 T.c h9.c := by
    refine F3.trans' F9 (fun f a ha hw => ?_)
    have := hw.2
    have ha' : a < T.sz := ha
    omega
  have F10 : Fr W0 T.c h10.c := by rw [e10]; exact F9'
  have k10 : h10.kd T.sz = (40, 32) := by rw [e10]; exact k9
  have r10 : h10.ai T.sz a = clo (G.rowF ind true v p) a := by
    rw [e10]
    show h9.ai T.sz a = _
    rw [r9]
    exact clo_congr (fun y hy => r3 y hy) ha
  refine ⟨ix_of rfl k10 ha (by decide), ?_⟩
  rw [adr_some, I_ni (by omega), r10]
  refine px_has (h := h10.srm 0 0) hb (pu (px_one1 (h := h10.srm 0 0) ?_ (pu (hC h10 F10))))
  by_cases hbt : bt (clo (G.rowF ind true v p) a) b = true
  · rw [if_pos hbt]; exact .inr rfl
  · rw [if_neg hbt]; exact .inl rfl
theorem px_haveVisits (C : CgR h.c L A g ind) {p : Nat} (hp : p < A.g.nP) (hQ : Q (if A.g.selfIn ind p then 0 else 1) h) : wp_X6_haveVisits (L.pa p) h Q := by
  have P := C.X.S.pr p hp
  have hk3 := C.W.kn p hp
  have f7 : h.fr 701 (L.pa p) = some (L.ql p) := P.sf
  unfold wp_X6_haveVisits
  unfold Gv.selfIn at hQ
  refine xlp_cnt (A.g.kn p + 1) (fun i s V => V = h ∧ s = I i ∧ ∀ j, j < i → A.g.self ind (A.g.sy p j) = false) ⟨rfl, rfl, fun j hj => absurd hj (Nat.not_lt_zero _)⟩ ?_
  rintro i s V K hi ⟨rfl, rfl, hno⟩ hK
  rw [f7, adr_some]
  refine ⟨nn_of rfl P.k, nn_of rfl P.sl.k, pc_size (h := V.srm 0 0) P.sl (pu ?_)⟩
  by_cases ei : i = A.g.kn p + 1
  · subst ei
    have : fstN (fun k => A.g.self ind (A.g.sy p k)) (A.g.kn p + 1) = none := fstN_none.2 hno
    rw [this] at hQ
    exact brT ((I_le (by omega) (by omega)).2 (Nat.le_refl _)) hQ
  have hik : i ≤ A.g.kn p := by omega
  refine brF (fun hh => by have := (I_le (by omega) (by omega)).1 hh; omega) ⟨nn_of rfl P.k, ?_⟩
  rw [f7, adr_some]
  have hsy := C.W.sy p i hp hik
  have SY := C.X.S.sy _ hsy
  refine ⟨nn_of rfl P.sl.k, px_sym (h := V.srm 0 0) P hik (pu ⟨.inr (nn_of rfl SY.k), nn_of rfl SY.k, ?_⟩)⟩
  have f5 : V.fi 605 (L.sa (A.g.sy p i)) = if A.g.self ind (A.g.sy p i) then 0 else I (A.g.vs ind (A.g.sy p i)) := (C.F.vis _ hsy).n
  rw [adr_some, f5]
  by_cases hse : A.g.self ind (A.g.sy p i) = true
  · rw [if_pos hse]
    have : fstN (fun k => A.g.self ind (A.g.sy p k)) (A.g.kn p + 1) = some i := fstN_some.2 ⟨by omega, hse, hno⟩
    rw [this] at hQ
    exact brT rfl hQ
  · have hsf : A.g.self ind (A.g.sy p i) = false := by simpa using hse
    rw [if_neg hse]
    have hb := C.I.vb C.W hsy hsf
    have v1 := hb.vs1
    have v9 := hb.vs9
    refine brF (fun hh => by have := (I0 (by omega)).1 hh; omega) (hK _ _ (by omega) ⟨rfl, I_add i 1, fun j hj => ?_⟩)
    by_cases ej : j = i
    · rw [ej]; exact hsf
    · exact hno j (by omega)
theorem q_hangs (R : CRep h.c o jn tpa X) (hc : 40 ≤ h.rc) (hs : 2000 ≤ h.rs) (hQ : ∀ h', CRep h'.c o jn tpa (X.ws (qHangs X x y z u).2) → Q (qHangs X x y z u).1 h') : wp_X0_hangs o x y z u h Q := by
  unfold wp_X0_hangs
  refine px_isInR (h := h.srm 0 0) (m := 3) (by decide) (by decide) (pu ?_)
  unfold qHangs at hQ
  by_cases hr : inR u 3
  rotate_left
  · rw [iP_neg hr]
    rw [cif_neg hr] at hQ
    refine ⟨fun v U => v = 1 ∧ U = h, brT rfl ⟨rfl, rfl⟩, ?_⟩
    rintro v U ⟨rfl, rfl⟩
    exact ⟨R.B.nn, qc0 R (fun h' R' _ _ => brT (by decide) (hQ h' R'))⟩
  rw [iP_pos hr]
  rw [cif_pos hr] at hQ
  refine ⟨fun v U => v = (if iP (okP X x) = 0 then 4 else 0) ∧ U = h, brF (by decide) ⟨R.B.nn, px_isProductionR (h := h.srm 0 0) R (pu (fun m hm => ⟨hm, rfl⟩))⟩, ?_⟩
  rintro v U ⟨rfl, rfl⟩
  refine ⟨R.B.nn, qc0 R (fun h' R' c' s' => ?_)⟩
  by_cases hsx : okP X x
  rotate_left
  · rw [iP_neg hsx] at R' ⊢
    rw [cif_neg (fun hh => hsx (by obtain ⟨A, ind, e, h', _⟩ := hh.1; exact ⟨A, ind, e, h'⟩))] at hQ
    exact brT (by decide) (hQ h' R')
  rw [iP_pos hsx] at R' ⊢
  rw [if_neg (by decide)] at R'
  refine brF (by decide) ?_
  obtain ⟨A, ind, hg, hxs⟩ := hsx
  obtain ⟨g, L, a1, C⟩ := R'.cg hg
  have a1' : h'.fr 103 o = some g := a1
  have s1 : h'.fr 401 g = some L.pl := C.X.O.p1
  have hP := C.W.nP
  have eO : ∀ w, okO X x w ↔ 0 ≤ w ∧ A.g.oc (ni x) (ni w) := fun w => ⟨fun hh => ((okO_iff hg).1 hh).2, fun hh => (okO_iff hg).2 ⟨hxs, hh⟩⟩
  rw [eO y, eO z, hg] at hQ
  dsimp only at hQ
  obtain ⟨k, hk, e⟩ := hxs
  subst e
  rw [I_ni (by omega)] at hQ
  have PR := C.X.S.pr k hk
  rw [a1', adr_some, s1, adr_some]
  refine ⟨R'.B.nn, nn_of rfl C.X.O.k, nn_of rfl C.X.O.p2.k, pc_get (h := h'.srm 0 0) C.X.O.p2 hk (pu ⟨.inr (nn_of rfl PR.k), nn_of rfl PR.k, ?_⟩)⟩
  rw [adr_some]
  refine px_isOccR (h := h'.srm 0 0) C.W C.X.S hk (pu ?_)
  by_cases h1 : 0 ≤ y ∧ A.g.oc k (ni y)
  rotate_left
  · rw [iP_neg h1]
    rw [cif_neg (fun hh => h1 hh.1)] at hQ
    exact brT rfl ⟨R'.B.nn, qn0 R' (fun h2 R2 => hQ h2 R2)⟩
  rw [iP_pos h1]
  refine brF (by decide) ⟨nn_of rfl PR.k, px_isOccR (h := h'.srm 0 0) C.W C.X.S hk (pu ?_)⟩
  by_cases h2 : 0 ≤ z ∧ A.g.oc k (ni z)
  rotate_left
  · rw [iP_neg h2]
    rw [cif_neg (fun hh => h2 hh.2)] at hQ
    exact brT rfl ⟨R'.B.nn, qn0 R' (fun h2 R2 => hQ h2 R2)⟩
  rw [iP_pos h2]
  rw [cif_pos ⟨h1, h2⟩] at hQ
  refine brF (by decide) ?_
  have ey := nnx h1.1
  have ez := nnx h2.1
  obtain ⟨a, ea⟩ : ∃ a, ni y = a := ⟨_, rfl⟩
  obtain ⟨b, eb⟩ : ∃ b, ni z = b := ⟨_, rfl⟩
  have ha : a < 32 := by rw [← ea]; exact h1.2.1
  have hb : b < 32 := by rw [← eb]; exact h2.2.1
  rw [ea, eb] at hQ
  rw [ea] at ey
  rw [eb] at ez
  rw [ey, ez]
  clear h1 h2 ey ez ea eb eO
  obtain ⟨j, hj, e⟩ := hr
  subst e
  rcases (show j = 0 ∨ j = 1 ∨ j = 2 by omega) with e | e | e
  · subst e
    rw [if_neg (show ¬ (I 0 = 2 ∧ A.g.selfIn ind k = true) from fun hh => absurd hh.1 (by decide)), if_pos (show I 0 = 0 from rfl)] at hQ
    refine brF (by decide) (brT rfl ⟨nn_of rfl PR.k, px_asked (h := h'.srm 0 0) PR ha (pu ?_)⟩)
    refine px_has (h := h'.srm 0 0) hb (pu (px_one1 (h := h'.srm 0 0) ?_ (pu (hQ h' R'))))
    by_cases hbt : bt (A.g.ask k a) b = true
    · rw [if_pos hbt]; exact .inr rfl
    · rw [if_neg hbt]; exact .inl rfl
  · subst e
    rw [if_neg (show ¬ (I 1 = 2 ∧ A.g.selfIn ind k = true) from fun hh => absurd hh.1 (by decide)), if_neg (show ¬ I 1 = 0 by decide), if_pos (show I 1 = 1 from rfl)] at hQ
    refine brF (by decide) (brF (by decide) ?_)
    intro m hm
    rw [if_neg (show ¬ I 1 = 2 by decide)] at hm
    subst hm
    refine ⟨nn_of rfl PR.k, px_rcl C.W C.X.S false C.F.di hk (fun hh => absurd hh (by decide)) (by omega) (by omega) ha hb ?_⟩
    intro h2 F2
    rw [clo_congr (fun y hy => Gv.rowF_rI) ha]
    exact hQ h2 (R'.w0 F2)
  · subst e
    refine brT rfl ⟨nn_of rfl PR.k, px_haveVisits (h := h'.srm 0 0) C hk (pu ?_)⟩
    by_cases hse : A.g.selfIn ind k = true
    · rw [if_pos ⟨(show I 2 = 2 from rfl), hse⟩] at hQ
      rw [if_pos hse]
      exact brT rfl ⟨R'.B.nn, qn0 R' (fun h2 R2 => hQ h2 R2)⟩
    · rw [if_neg (fun hh => hse hh.2), if_neg (show ¬ I 2 = 0 by decide), if_neg (show ¬ I 2 = 1 by decide)] at hQ
      rw [if_neg hse]
      refine brF (by decide) (brF (by decide) ?_)
      intro m hm
      rw [if_pos (show I 2 = 2 from rfl)] at hm
      subst hm
      have hself : ∀ i, i ≤ A.g.kn k → A.g.self ind (A.g.sy k i) = false := by
        intro i hi
        unfold Gv.selfIn at hse
        have hn : fstN (fun i => A.g.self ind (A.g.sy k i)) (A.g.kn k + 1) = none := by simpa using hse
        exact fstN_none.1 hn i (by omega)
      refine ⟨nn_of rfl PR.k, px_rcl C.W C.X.S true C.F.di hk (fun _ i hi => ⟨C.I.vb C.W (C.W.sy k i hk hi) (hself i hi), fun a ha => (C.F.vis _ (C.W.sy k i hk hi)).v (hself i hi) a ha⟩) (by omega) (by omega) ha hb ?_⟩
      intro h2 F2
      rw [clo_congr (fun y hy => Gv.rowF_rV C.W hk hy) ha]
      exact hQ h2 (R'.w0 F2)
theorem q_circle (R : CRep h.c o jn tpa X) (hc : 40 ≤ h.rc) (hs : 2000 ≤ h.rs) (hQ : ∀ h', CRep h'.c o jn tpa (X.ws (qCircle X x).2) → Q (qCircle X x).1 h') : wp_X0_circle o x h Q := by
  unfold wp_X0_circle
  unfold qCircle at hQ
  by_cases hx : -1 ≤ x
  rotate_left
  · rw [cif_neg hx] at hQ
    refine ⟨fun v U => v = 1 ∧ U = h, brF hx ⟨rfl, rfl⟩, ?_⟩
    rintro v U ⟨rfl, rfl⟩
    exact ⟨R.B.nn, qc0 R (fun h' R' _ _ => brT (by decide) (hQ h' R'))⟩
  rw [cif_pos hx] at hQ
  cases hg : X.gr with
  | none =>
    rw [hg] at hQ
    refine ⟨fun v U => v = 2 ∧ U = h, brT hx ⟨R.B.nn, brT (R.g0 hg).1 ⟨rfl, rfl⟩⟩, ?_⟩
    rintro v U ⟨rfl, rfl⟩
    exact ⟨R.B.nn, qc0 R (fun h' R' _ _ => brT (by decide) (hQ h' R'))⟩
  | some q =>
  obtain ⟨A, ind⟩ := q
  rw [hg] at hQ
  dsimp only at hQ
  obtain ⟨g0, L0, a0, C0⟩ := R.cg hg
  have a0' : h.fr 103 o = some g0 := a0
  have f0 : h.fi 403 g0 = oI (A.g.cirP ind) := C0.F.ci
  have hP := C0.W.nP
  refine ⟨fun v U => v = (if 0 ≤ oI (A.g.cirP ind) then 0 else 7) ∧ U = h, brT hx ⟨R.B.nn, ?_⟩, ?_⟩
  · rw [a0', adr_some, f0]
    exact brF (by simp) ⟨nn_of rfl C0.X.O.k, fun m hm => ⟨hm, rfl⟩⟩
  rintro v U ⟨rfl, rfl⟩
  refine ⟨R.B.nn, qc0 R (fun h' R' c' s' => ?_)⟩
  cases hb : A.g.cirP ind with
  | none =>
    rw [hb] at hQ R'
    have en : ¬ (0 : Int32) ≤ oI none := by decide
    rw [if_neg en] at R' ⊢
    exact brT (by decide) (hQ h' R')
  | some p =>
    rw [hb] at hQ R'
    dsimp only at hQ
    obtain ⟨hp, hsm⟩ := C0.cir hb
    have en : (0 : Int32) ≤ oI (some p) := zero_le_I (by omega)
    rw [if_pos en] at R' ⊢
    refine brF (by decide) ?_
    obtain ⟨g, L, a1, C⟩ := R'.cg hg
    have a1' : h'.fr 103 o = some g := a1
    have f3 : h'.fi 403 g = I p := by rw [show h'.fi 403 g = oI (A.g.cirP ind) from C.F.ci, hb]; rfl
    have s1 : h'.fr 401 g = some L.pl := C.X.O.p1
    have PR := C.X.S.pr p hp
    rw [a1', adr_some, f3, s1, adr_some]
    by_cases hm1 : x = -1
    · rw [if_pos hm1] at hQ
      exact brT hm1 ⟨R'.B.nn, nn_of rfl C.X.O.k, hQ h' R'⟩
    rw [if_neg hm1] at hQ
    refine brF hm1 ⟨R'.B.nn, nn_of rfl C.X.O.k, nn_of rfl C.X.O.p2.k, pc_get (h := h'.srm 0 0) C.X.O.p2 hp (pu ⟨.inr (nn_of rfl PR.k), R'.B.nn, ?_⟩)⟩
    obtain ⟨gg, hgg⟩ := Option.isSome_iff_exists.1 hsm
    rw [hgg] at hQ
    dsimp only at hQ
    refine ⟨40, 2000, ⟨by omega, by omega⟩, px_circleOf (h := h'.srm 40 2000) C.W C.X.S C.F.di hp hgg R'.CI (Nat.le_refl _) (Nat.le_refl _) ?_⟩
    intro h2 a d m xx F2 Ls2 hel h3 e3
    have R3 : CRep h3.c o jn tpa (X.ws 0) := by rw [e3]; exact R'.w0 (h' := h2) F2
    have Ls3 : Ls h3.c a d m (rlen (A.g.rI ind p) gg) xx := by rw [e3]; exact Ls2
    have hel3 : ∀ i, i < rlen (A.g.rI ind p) gg → (h3.kd (xx i)).1 = 25 ∧ h3.fi 2500 (xx i) = I (ring (A.g.rI ind p) gg (rlen (A.g.rI ind p) gg) i) := by rw [e3]; exact hel
    have hnm := Ls3.nm
    have hmb := Ls3.mb
    refine ⟨nn_of rfl Ls3.k, ?_⟩
    rw [adr_some]
    refine pc_size (h := h3.srm 0 0) Ls3 (pu ?_)
    have hx0 : 0 ≤ x := by
      rw [Int32.le_iff_toInt_le] at hx ⊢
      have e1 : (-1 : Int32).toInt = -1 := by decide
      have e0 : (0 : Int32).toInt = 0 := by decide
      have : x.toInt ≠ -1 := fun hh => hm1 (Int32.toInt_inj.1 (by rw [hh, e1]))
      omega
    have ex := nnx hx0
    have hxl := ni_lt x
    generalize hj : ni x = j at *
    subst ex
    by_cases hl : j < rlen (A.g.rI ind p) gg
    · rw [if_pos hl] at hQ
      refine brF (fun hh => by have := (I_le (by omega) (by omega)).1 hh; omega) ⟨nn_of rfl Ls3.k, pc_get (h := h3.srm 0 0) Ls3 hl (pu ⟨.inr (nn_of rfl (hel3 j hl).1), nn_of rfl (hel3 j hl).1, ?_⟩)⟩
      rw [adr_some]
      refine ⟨nn_of rfl (hel3 j hl).1, pu ?_⟩
      rw [show (h3.srm 0 0).fi 2500 (xx j) = _ from (hel3 j hl).2]
      exact hQ h3 R3
    · rw [if_neg hl] at hQ
      exact brT ((I_le (by omega) (by omega)).2 (by omega)) ⟨R3.B.nn, qn0 R3 (fun h2 R2 => hQ h2 R2)⟩
end
