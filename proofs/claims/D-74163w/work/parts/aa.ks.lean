/-! plain: ks -/
set_option maxRecDepth 100000
section
variable {h : AH} {lo q o jn tpa : Nat} {tp : Nat → Nat} {n : Nat} {t : Tk} {L L' : GA} {A A' : PG} {ow ow' : Nat → Nat} {z0 g p : Nat}

/-- what any part asks. -/
def DA (d : Nat) (r : Option Nat) (h : AH) (J : Int32 → AH → Prop) : Prop :=
  ((nn h r 8 ∧ wp_X8_asks d (adr r) (h.srm 0 0) fun r1 h1 => ∀ h2, h2 = h1.srm h.rc h.rs → J r1 h2) ∨
   (nn h r 9 ∧ wp_X7_asks (adr r) (h.srm 0 0) fun r1 h1 => ∀ h2, h2 = h1.srm h.rc h.rs → J r1 h2) ∨
   (nn h r 10 ∧ wp_X7_asks (adr r) (h.srm 0 0) fun r1 h1 => ∀ h2, h2 = h1.srm h.rc h.rs → J r1 h2) ∨
   (nn h r 11 ∧ wp_X11_asks (adr r) (h.srm 0 0) fun r1 h1 => ∀ h2, h2 = h1.srm h.rc h.rs → J r1 h2) ∨
   (nn h r 12 ∧ wp_X12_asks d (adr r) (h.srm 0 0) fun r1 h1 => ∀ h2, h2 = h1.srm h.rc h.rs → J r1 h2))
theorem a12s (d : Nat) : wp_X12_asks (d + 1) = wo_X12_asks (wp_X12_asks d) (wp_X8_asks d) := rfl
theorem a8s (d : Nat) : wp_X8_asks (d + 1) = wo_X8_asks (wp_X12_asks d) (wp_X8_asks d) := rfl
theorem asks_end {c : Nat} (hc : c ≠ 2) : Ex.asks [(c, 0)] = 0 := by
  show (if c = 2 then _ else _) = _
  rw [if_neg hc]; rfl
theorem px_asksP : ∀ (d : Nat) {h : AH} {a : Nat} {e : Ex}, PtR h.c d a e → ∀ {J : Int32 → AH → Prop}, J (Ex.asks e) h → DA d (some a) h J
  | 0, _, _, _, hP, _, _ => absurd hP (fun hh => hh)
  | d + 1, h, a, e, hP, J, hJ => by
    rcases hP.2 with ⟨h0, n, rfl, h1⟩ | ⟨h0, rfl⟩ | ⟨h0, o, ho32, rfl, h1⟩ | ⟨h0, k, l, r, el, er, h1, h2, h3, h4, h5, rfl⟩ | ⟨h0, y0, y1, y2, ex, ey, ez, h1, h2, h3, h4, h5, h6, rfl⟩
    · exact .inr (.inr (.inl ⟨nn_of rfl h0, pu hJ⟩))
    · exact .inr (.inl ⟨nn_of rfl h0, pu hJ⟩)
    · refine .inr (.inr (.inr (.inl ⟨nn_of rfl h0, nn_of rfl h0, pu ?_⟩)))
      rw [adr_some]
      show J (jshl 1 (h.fi 1100 a)) h
      rw [show h.fi 1100 a = I o from h1]
      have e1 : Ex.asks [(2, o)] = jshl 1 (I o) := by
        show jshl 1 (I o) ||| 0 = _
        exact or_zero' _
      rw [e1] at hJ
      exact hJ
    · refine .inr (.inr (.inr (.inr ⟨nn_of rfl h0, ?_⟩)))
      rw [a12s, adr_some]
      unfold wo_X12_asks
      have f1 : (h.srm 0 0).fr 1201 a = some l := h2
      have f2 : (h.srm 0 0).fr 1202 a = some r := h3
      refine ⟨nn_of rfl h0, fun v U => v = Ex.asks el ∧ U = h.srm 0 0, ?_, ?_⟩
      · rw [f1]
        exact px_asksP d (h := h.srm 0 0) h4 ⟨rfl, rfl⟩
      · intro v U hh
        rw [hh.1, hh.2]
        refine ⟨nn_of rfl h0, fun v U => v = Ex.asks er ∧ U = h.srm 0 0, ?_, ?_⟩
        · rw [f2]
          exact px_asksP d (h := h.srm 0 0) h5 ⟨rfl, rfl⟩
        · intro v U hh
          rw [hh.1, hh.2]
          have hj := jc_3 k
          rw [Ex.asks_app, Ex.asks_app, asks_end (by omega), or_zero'] at hJ
          exact pu hJ
    · refine .inl ⟨nn_of rfl h0, ?_⟩
      rw [a8s, adr_some]
      unfold wo_X8_asks
      have f0 : (h.srm 0 0).fr 800 a = some y0 := h1
      have f1 : (h.srm 0 0).fr 801 a = some y1 := h2
      have f2 : (h.srm 0 0).fr 802 a = some y2 := h3
      refine ⟨nn_of rfl h0, fun v U => v = Ex.asks ex ∧ U = h.srm 0 0, ?_, ?_⟩
      · rw [f0]
        exact px_asksP d (h := h.srm 0 0) h4 ⟨rfl, rfl⟩
      intro v U hh
      rw [hh.1, hh.2]
      refine ⟨nn_of rfl h0, fun v U => v = Ex.asks ey ∧ U = h.srm 0 0, ?_, ?_⟩
      · rw [f1]
        exact px_asksP d (h := h.srm 0 0) h5 ⟨rfl, rfl⟩
      intro v U hh
      rw [hh.1, hh.2]
      refine ⟨nn_of rfl h0, fun v U => v = Ex.asks ez ∧ U = h.srm 0 0, ?_, ?_⟩
      · rw [f2]
        exact px_asksP d (h := h.srm 0 0) h6 ⟨rfl, rfl⟩
      intro v U hh
      rw [hh.1, hh.2]
      rw [Ex.asks_app, Ex.asks_app, Ex.asks_app, asks_end (by decide), or_zero', ← Int32.or_assoc] at hJ
      exact pu hJ
/-- whether any part asks the own number. -/
def DB (d : Nat) (r : Option Nat) (h : AH) (J : Int32 → AH → Prop) : Prop :=
  ((nn h r 8 ∧ wp_X8_asksOwn d (adr r) (h.srm 0 0) fun r1 h1 => ∀ h2, h2 = h1.srm h.rc h.rs → J r1 h2) ∨
   (nn h r 9 ∧ wp_X9_asksOwn (adr r) (h.srm 0 0) fun r1 h1 => ∀ h2, h2 = h1.srm h.rc h.rs → J r1 h2) ∨
   (nn h r 10 ∧ wp_X7_asksOwn (adr r) (h.srm 0 0) fun r1 h1 => ∀ h2, h2 = h1.srm h.rc h.rs → J r1 h2) ∨
   (nn h r 11 ∧ wp_X7_asksOwn (adr r) (h.srm 0 0) fun r1 h1 => ∀ h2, h2 = h1.srm h.rc h.rs → J r1 h2) ∨
   (nn h r 12 ∧ wp_X12_asksOwn d (adr r) (h.srm 0 0) fun r1 h1 => ∀ h2, h2 = h1.srm h.rc h.rs → J r1 h2))
theorem b12s (d : Nat) : wp_X12_asksOwn (d + 1) = wo_X12_asksOwn (wp_X12_asksOwn d) (wp_X8_asksOwn d) := rfl
theorem b8s (d : Nat) : wp_X8_asksOwn (d + 1) = wo_X8_asksOwn (wp_X12_asksOwn d) (wp_X8_asksOwn d) := rfl
theorem own_end {c : Nat} (hc : c ≠ 1) : Ex.isOwn [(c, 0)] = false := by
  show (decide (c = 1) || Ex.isOwn []) = false
  rw [decide_eq_false hc]; rfl
theorem px_ownP : ∀ (d : Nat) {h : AH} {a : Nat} {e : Ex}, PtR h.c d a e → ∀ {J : Int32 → AH → Prop}, J (if Ex.isOwn e then 1 else 0) h → DB d (some a) h J
  | 0, _, _, _, hP, _, _ => absurd hP (fun hh => hh)
  | d + 1, h, a, e, hP, J, hJ => by
    rcases hP.2 with ⟨h0, n, rfl, h1⟩ | ⟨h0, rfl⟩ | ⟨h0, o, ho32, rfl, h1⟩ | ⟨h0, k, l, r, el, er, h1, h2, h3, h4, h5, rfl⟩ | ⟨h0, y0, y1, y2, ex, ey, ez, h1, h2, h3, h4, h5, h6, rfl⟩
    · exact .inr (.inr (.inl ⟨nn_of rfl h0, pu hJ⟩))
    · exact .inr (.inl ⟨nn_of rfl h0, pu hJ⟩)
    · exact .inr (.inr (.inr (.inl ⟨nn_of rfl h0, pu hJ⟩)))
    · refine .inr (.inr (.inr (.inr ⟨nn_of rfl h0, ?_⟩)))
      rw [b12s, adr_some]
      unfold wo_X12_asksOwn
      have f1 : (h.srm 0 0).fr 1201 a = some l := h2
      have f2 : (h.srm 0 0).fr 1202 a = some r := h3
      have hj := jc_3 k
      rw [Ex.isOwn_app, Ex.isOwn_app, own_end (by omega), Bool.or_false] at hJ
      refine ⟨nn_of rfl h0, fun v U => v = (if Ex.isOwn el then 1 else 0) ∧ U = h.srm 0 0, ?_, ?_⟩
      · rw [f1]
        exact px_ownP d (h := h.srm 0 0) h4 ⟨rfl, rfl⟩
      · intro v U hh
        rw [hh.1, hh.2]
        cases h8 : Ex.isOwn el with
        | true =>
          rw [h8, Bool.true_or] at hJ
          exact brF (by decide) (pu hJ)
        | false =>
          rw [h8, Bool.false_or] at hJ
          refine brT rfl ⟨nn_of rfl h0, fun v U => v = (if Ex.isOwn er then 1 else 0) ∧ U = h.srm 0 0, ?_, ?_⟩
          · rw [f2]
            exact px_ownP d (h := h.srm 0 0) h5 ⟨rfl, rfl⟩
          · intro v U hh
            rw [hh.1, hh.2]
            cases h9 : Ex.isOwn er with
            | true =>
              rw [h9] at hJ
              intro m em
              have em' : m = 1 := by rw [em]; rfl
              rw [em']; exact ⟨.inr rfl, pu hJ⟩
            | false =>
              rw [h9] at hJ
              intro m em
              have em' : m = 0 := by rw [em]; rfl
              rw [em']; exact ⟨.inl rfl, pu hJ⟩
    · refine .inl ⟨nn_of rfl h0, ?_⟩
      rw [b8s, adr_some]
      unfold wo_X8_asksOwn
      have f0 : (h.srm 0 0).fr 800 a = some y0 := h1
      have f1 : (h.srm 0 0).fr 801 a = some y1 := h2
      have f2 : (h.srm 0 0).fr 802 a = some y2 := h3
      rw [Ex.isOwn_app, Ex.isOwn_app, Ex.isOwn_app, own_end (by decide), Bool.or_false] at hJ
      refine ⟨nn_of rfl h0, fun v U => v = (if Ex.isOwn ex then 1 else 0) ∧ U = h.srm 0 0, ?_, ?_⟩
      · rw [f0]
        exact px_ownP d (h := h.srm 0 0) h4 ⟨rfl, rfl⟩
      intro v U hh
      rw [hh.1, hh.2]
      cases h8 : Ex.isOwn ex with
      | true =>
        rw [h8, Bool.true_or] at hJ
        exact brF (by decide) (pu hJ)
      | false =>
        rw [h8, Bool.false_or] at hJ
        refine brT rfl ⟨nn_of rfl h0, fun v U => v = (if Ex.isOwn ey then 1 else 0) ∧ U = h.srm 0 0, ?_, ?_⟩
        · rw [f1]
          exact px_ownP d (h := h.srm 0 0) h5 ⟨rfl, rfl⟩
        intro v U hh
        rw [hh.1, hh.2]
        cases h9 : Ex.isOwn ey with
        | true =>
          rw [h9, Bool.true_or] at hJ
          exact brF (by decide) (pu hJ)
        | false =>
          rw [h9, Bool.false_or] at hJ
          refine brT rfl ⟨nn_of rfl h0, fun v U => v = (if Ex.isOwn ez then 1 else 0) ∧ U = h.srm 0 0, ?_, ?_⟩
          · rw [f2]
            exact px_ownP d (h := h.srm 0 0) h6 ⟨rfl, rfl⟩
          intro v U hh
          rw [hh.1, hh.2]
          cases h7 : Ex.isOwn ez with
          | true =>
            rw [h7] at hJ
            intro m em
            have em' : m = 1 := by rw [em]; rfl
            rw [em']; exact ⟨.inr rfl, pu hJ⟩
          | false =>
            rw [h7] at hJ
            intro m em
            have em' : m = 0 := by rw [em]; rfl
            rw [em']; exact ⟨.inl rfl, pu hJ⟩

/-- a rule is laid. -/
theorem px_tells {u a : Nat} {e : Ex} {q0 : Nat} (B : GB h.c L A ow z0 g) (hp : p < A.g.nP) (ht : A.g.tl p u) (hX : PtR h.c 64 a e) (hE : exK A p e 0 q0) {Q : AH → Prop}
    (hQ : ∀ h', Fr (fun f b => f = 0 ∧ (b = L.pr p ∨ b = L.pk p ∨ b = L.po p)) h.c h'.c → GB h'.c L (A.addR p u e) ow z0 g → h'.rc = h.rc → h'.rs = h.rs → Q h') : wp_X6_tells (L.pa p) (I u) (some a) h Q := by
  have P := B.pr p hp
  have hu : u < 32 := ht.1.1
  unfold wp_X6_tells
  refine ⟨nn_of rfl P.R.k, ?_⟩
  rw [show h.fr 702 (L.pa p) = some (L.pr p) from P.u1]
  have ka : stk 46 (h.kd a).1 = true := by
    rcases hX.2 with ⟨h0, _⟩ | ⟨h0, _⟩ | ⟨h0, _⟩ | ⟨h0, _⟩ | ⟨h0, _⟩ <;> rw [show (h.kd a).1 = _ from h0] <;> rfl
  refine ⟨ix_of rfl (show h.kd (L.pr p) = (46, 32) from P.u2) hu (by decide), .inr ⟨a, rfl, ka⟩, ?_⟩
  rw [adr_some, I_ni (by omega)]
  intro h2 e2
  have F2 : Fr (fun f b => f = 0 ∧ (b = L.pr p ∨ b = L.pk p ∨ b = L.po p)) h.c h2.c := by rw [e2]; exact (Fr.refl _).sar _ _ (fun _ => ⟨rfl, .inl rfl⟩)
  have nf : ∀ f a, f ≠ 0 → ¬ (f = 0 ∧ (a = L.pr p ∨ a = L.pk p ∨ a = L.po p)) := fun f a h1 hh => h1 hh.1
  have X2 : PtR h2.c 64 a e := hX.keep F2 (fun f b hh => nf f b (by omega))
  have d1 : L.pk p ≠ L.pr p := ow_ne P.o5 P.o4 (tg_ne (by decide) (by decide) (.inl (by decide)))
  have d2 : L.po p ≠ L.pr p := ow_ne P.o6 P.o4 (tg_ne (by decide) (by decide) (.inl (by decide)))
  have d3 : L.po p ≠ L.pk p := ow_ne P.o6 P.o5 (tg_ne (by decide) (by decide) (.inl (by decide)))
  refine ⟨fun v U => v = Ex.asks e ∧ U = h2, px_asksP 64 X2 ⟨rfl, rfl⟩, ?_⟩
  intro v U hh
  rw [hh.1, hh.2]
  rw [show h2.fr 703 (L.pa p) = some (L.pk p) by rw [e2]; exact P.R.k1]
  refine ⟨ix_of rfl (show h2.kd (L.pk p) = (40, 32) by rw [e2]; exact P.R.k2) hu (by decide), ?_⟩
  rw [adr_some]
  intro h7 e7
  have F7 : Fr (fun f b => f = 0 ∧ (b = L.pr p ∨ b = L.pk p ∨ b = L.po p)) h.c h7.c := by rw [e7]; exact F2.sai _ _ (fun _ => ⟨rfl, .inr (.inl rfl)⟩)
  have X7 : PtR h7.c 64 a e := hX.keep F7 (fun f b hh => nf f b (by omega))
  have k7 : (h7.kd (L.pa p)).1 = 7 := by
    show (h7.c.kd (L.pa p)).1 = 7
    rw [F7.kd _ P.R.l]; exact P.R.k
  refine ⟨nn_of rfl k7, ?_⟩
  refine ⟨fun v U => v = (if Ex.isOwn e then 1 else 0) ∧ U = h7, px_ownP 64 X7 ⟨rfl, rfl⟩, ?_⟩
  intro v U hh
  rw [hh.1, hh.2]
  rw [show h7.fr 704 (L.pa p) = some (L.po p) from (F7.fr _ _ P.R.l (nf _ _ (by decide))).trans P.w1]
  refine ⟨ix_of rfl (show h7.kd (L.po p) = (42, 32) from (F7.kd _ P.w3).trans P.w2) hu (by decide), ?_⟩
  rw [adr_some]
  have nar : vp_nar .boolean (if Ex.isOwn e then 1 else 0) = (if Ex.isOwn e then 1 else 0) := by cases Ex.isOwn e <;> rfl
  rw [nar]
  intro h13 e13
  have F13 : Fr (fun f b => f = 0 ∧ (b = L.pr p ∨ b = L.pk p ∨ b = L.po p)) h.c h13.c := by rw [e13]; exact F7.sai _ _ (fun _ => ⟨rfl, .inr (.inr rfl)⟩)
  have ar13 : h13.ar (L.pr p) = updN (h.ar (L.pr p)) u (some a) := by
    rw [e13]; show h7.ar _ = _
    rw [e7]; show h2.ar _ = _
    rw [e2, sar_ar, if_pos rfl]
  have ak13 : h13.ai (L.pk p) = updN (h.ai (L.pk p)) u (Ex.asks e) := by
    rw [e13, sai_ai, if_neg d3.symm, e7, sai_ai, if_pos rfl, e2]; rfl
  have ao13 : h13.ai (L.po p) = updN (h.ai (L.po p)) u (if Ex.isOwn e then 1 else 0) := by
    rw [e13, sai_ai, if_pos rfl, e7, sai_ai, if_neg d3, e2]; rfl
  refine hQ h13 F13 ?_ (by rw [e13, e7, e2]; rfl) (by rw [e13, e7, e2]; rfl)
  obtain ⟨W', Y'⟩ := hE.addR B.W B.Y ht
  have nk : ∀ b, (h.c.kd b).1 ≠ 46 → (h.c.kd b).1 ≠ 40 → (h.c.kd b).1 ≠ 42 → ¬ ((0 : Nat) = 0 ∧ (b = L.pr p ∨ b = L.pk p ∨ b = L.po p)) := by
    intro b h1 h2 h3 hh
    rcases hh.2 with e | e | e
    · rw [e, P.u2] at h1; exact h1 rfl
    · rw [e, P.R.k2] at h2; exact h2 rfl
    · rw [e, P.w2] at h3; exact h3 rfl
  refine ⟨by rw [F13.kd _ B.l]; exact B.k, Nat.lt_of_lt_of_le B.l F13.sz, by rw [F13.fr _ _ B.l (nf _ _ (by decide))]; exact B.s1, B.s2.keep F13 (nf _ _ (by decide)) (nf _ _ (by decide)) (nk _ (by rw [B.s2.dk]; simp) (by rw [B.s2.dk]; simp) (by rw [B.s2.dk]; simp)), B.s3, by rw [F13.fr _ _ B.l (nf _ _ (by decide))]; exact B.p1, B.p2.keep F13 (nf _ _ (by decide)) (nf _ _ (by decide)) (nk _ (by rw [B.p2.dk]; simp) (by rw [B.p2.dk]; simp) (by rw [B.p2.dk]; simp)), B.p3, by rw [F13.fi _ _ B.l (nf _ _ (by decide))]; exact B.b1, by rw [F13.fi _ _ B.l (nf _ _ (by decide))]; exact B.b2, ?_, ?_, B.o1, B.o2, B.o3, B.o4, B.z, W', Y'⟩
  · intro s hs
    have hs' : s < A.g.nS := hs
    have S := B.sy s hs'
    obtain ⟨x, Lx, _⟩ := S.n2
    have S' : SyN h13.c L A ow s := S.keep F13 (fun f b hh => nf f b (by omega)) (nf _ _ (by decide)) (nf _ _ (by decide)) (nk _ (by rw [Lx.dk]; simp) (by rw [Lx.dk]; simp) (by rw [Lx.dk]; simp)) (fun hh => by
      rcases hh.2 with e | e | e
      · exact ow_ne S.o4 P.o4 (tg_ne (by decide) (by decide) (.inl (by decide))) e
      · exact ow_ne S.o4 P.o5 (tg_ne (by decide) (by decide) (.inl (by decide))) e
      · exact ow_ne S.o4 P.o6 (tg_ne (by decide) (by decide) (.inl (by decide))) e) (fun v hv => nk v (by rw [hv]; decide) (by rw [hv]; decide) (by rw [hv]; decide))
    exact S'.eqv (L' := L) (A' := A.addR p u e) (ow' := ow) rfl rfl rfl rfl rfl rfl rfl rfl rfl rfl (fun _ _ => rfl)
  · intro p' hp'
    have hp2 : p' < A.g.nP := hp'
    have S := B.pr p' hp2
    have nd : ¬ ((0 : Nat) = 0 ∧ (L.qd p' = L.pr p ∨ L.qd p' = L.pk p ∨ L.qd p' = L.po p)) := nk _ (by rw [S.R.sl.dk]; simp) (by rw [S.R.sl.dk]; simp) (by rw [S.R.sl.dk]; simp)
    by_cases ep : p' = p
    · subst ep
      have rl' : (A.addR p' u e).g.rl p' = updN (A.g.rl p') u (some e) := updN_same _ _ _
      have ask' : ∀ v, (A.addR p' u e).g.ask p' v = if v = u then Ex.asks e else A.g.ask p' v := by
        intro v
        unfold Gv.ask
        rw [rl']
        by_cases ev : v = u
        · rw [ev, updN_same, if_pos rfl]
        · rw [updN_ne _ _ ev, if_neg ev]
      refine ⟨⟨by rw [F13.kd _ S.R.l]; exact S.R.k, Nat.lt_of_lt_of_le S.R.l F13.sz, by rw [F13.fr _ _ S.R.l (nf _ _ (by decide))]; exact S.R.sf, S.R.sl.keep F13 (nf _ _ (by decide)) (nf _ _ (by decide)) nd, by rw [F13.fr _ _ S.R.l (nf _ _ (by decide))]; exact S.R.k1, by rw [F13.kd _ S.R.k3]; exact S.R.k2, Nat.lt_of_lt_of_le S.R.k3 F13.sz, fun v hv => ?_⟩, ?_, by rw [F13.fr _ _ S.R.l (nf _ _ (by decide))]; exact S.q1, by rw [F13.kd _ S.q3]; exact S.q2, Nat.lt_of_lt_of_le S.q3 F13.sz, by rw [F13.fr _ _ S.R.l (nf _ _ (by decide))]; exact S.u1, by rw [F13.kd _ S.u3]; exact S.u2, Nat.lt_of_lt_of_le S.u3 F13.sz, fun v hv he => ?_, fun v e' hv he => ?_, by rw [F13.fr _ _ S.R.l (nf _ _ (by decide))]; exact S.w1, by rw [F13.kd _ S.w3]; exact S.w2, Nat.lt_of_lt_of_le S.w3 F13.sz, fun v hv => ?_, S.o1, S.o2, S.o3, S.o4, S.o5, S.o6, S.o7⟩
      · rw [ask']
        show h13.ai (L.pk p') v = _
        rw [ak13]
        by_cases ev : v = u
        · rw [ev, updN_same, if_pos rfl]
        · rw [updN_ne _ _ ev, if_neg ev]; exact S.R.k4 v hv
      · obtain ⟨x, y, n1, n2⟩ := S.n1
        exact ⟨x, y, by rw [F13.fr _ _ S.R.l (nf _ _ (by decide))]; exact n1, n2.keep F13 (nf _ _ (by decide)) (nf _ _ (by decide)) (nk _ (by rw [n2.vk]; simp) (by rw [n2.vk]; simp) (by rw [n2.vk]; simp))⟩
      · show h13.ar (L.pr p') v = none
        rw [rl'] at he
        rw [ar13]
        by_cases ev : v = u
        · rw [ev, updN_same] at he; exact absurd he (by simp)
        · rw [updN_ne _ _ ev] at he ⊢; exact S.u4 v hv he
      · rw [rl'] at he
        show ∃ a, h13.ar (L.pr p') v = some a ∧ _
        rw [ar13]
        by_cases ev : v = u
        · rw [ev, updN_same] at he ⊢
          have ee : e = e' := by simpa using he
          exact ⟨a, rfl, by rw [← ee]; exact hX.keep F13 (fun f b hh => nf f b (by omega))⟩
        · rw [updN_ne _ _ ev] at he ⊢
          obtain ⟨a', x1, x2⟩ := S.u5 v e' hv he
          exact ⟨a', x1, x2.keep F13 (fun f b hh => nf f b (by omega))⟩
      · rw [rl']
        show h13.ai (L.po p') v = _
        rw [ao13]
        by_cases ev : v = u
        · rw [ev, updN_same, updN_same]
        · rw [updN_ne _ _ ev, updN_ne _ _ ev]; exact S.w4 v hv
    · have df : ∀ {i j : Nat}, i < 32 → j < 32 → tg i p' ≠ tg j p := fun hi hj => tg_ne hi hj (.inr ep)
      have n3 : ∀ {b i : Nat}, i < 32 → ow b = tg i p' → ¬ ((0 : Nat) = 0 ∧ (b = L.pr p ∨ b = L.pk p ∨ b = L.po p)) := by
        intro b i hi hb hh
        rcases hh.2 with e | e | e
        · exact ow_ne hb P.o4 (df hi (by decide)) e
        · exact ow_ne hb P.o5 (df hi (by decide)) e
        · exact ow_ne hb P.o6 (df hi (by decide)) e
      have S' : PrN h13.c L A ow p' := S.keep F13 (fun f b hh => nf f b (by omega)) (nf _ _ (by decide)) (nf _ _ (by decide)) nd (n3 (by decide) S.o5) (n3 (by decide) S.o4) (n3 (by decide) S.o6) (fun v hv => nk v (by rw [hv]; decide) (by rw [hv]; decide) (by rw [hv]; decide))
      exact S'.eqv (L' := L) (A' := A.addR p u e) (ow' := ow) rfl rfl rfl rfl rfl rfl rfl rfl rfl (fun _ _ => rfl) (fun v => by rw [show (A.addR p u e).g.rl p' = A.g.rl p' from updN_ne _ _ ep]) rfl (fun _ _ => rfl)
end
