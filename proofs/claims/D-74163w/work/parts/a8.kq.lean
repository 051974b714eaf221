/-! plain: kq -/
set_option maxRecDepth 100000
section
variable {h : AH} {lo q o jn tpa : Nat} {tp : Nat → Nat} {n : Nat} {t : Tk} {L L' : GA} {A A' : PG} {ow ow' : Nat → Nat} {z0 g p : Nat}

theorem bud64 {E a b s R R' : Nat} (hA : 64 * (E - a) + s ≤ R) (hab : a ≤ b) (hbE : b ≤ E) (hR : R - 64 * (b - a) ≤ R') : 64 * (E - b) + s ≤ R' := by omega
theorem bud1k {E a b s R R' : Nat} (hA : 1024 * (E - a) + s ≤ R) (hab : a ≤ b) (hbE : b ≤ E) (hR : R - 1024 * (b - a) ≤ R') : 1024 * (E - b) + s ≤ R' := by omega
theorem pSE_up {rs : Nat → Nat → Tk → ER} {d pa c : Nat} (hok : ∀ pa t, isT tp n t → pa ≤ 24 → okE tp n A p pa t (rs d pa t)) (ht : isT tp n t) (hpa : pa ≤ 24) {b : Ex × Nat × Tk} (e : pSE tp n rs d pa c t = .ok b) : t.fr + 1 ≤ b.2.2.fr ∧ isT tp n b.2.2 ∧ b.2.1 ≤ 24 ∧ pa + 1 ≤ b.2.1 := (pSE_ok (c := c) (hok pa t ht hpa)).up e
theorem g_choice {d : Nat} {rs : Nat → Nat → Tk → ER} {rC rE rP : Nat → AH → (Option Nat → AH → Prop) → (Nat → AH → Prop) → Prop} (hE : d < 6 → SpE lo q o jn tpa tp n L A ow z0 g p (rs (d + 1)) (d + 1) rE) (hok : ∀ pa t, isT tp n t → pa ≤ 24 → okE tp n A p pa t (rs (d + 1) pa t)) (hN : ∀ pa t b, nN n t → rs (d + 1) pa t = .ok b → nN n b.2.2) :
    SpE lo q o jn tpa tp n L A ow z0 g p (fun pa t => pIf tp n rs d pa t) d (wo_X2_choice rC rE rP) := by
  intro h t pa r P X C er hc hs h1 h0
  have le0 := C.K.le
  have m := C.m
  have d6 := C.d6
  have er' : pIf tp n rs d pa t = r := er
  have far : t.fr + 1 ≤ eE n (fun x : Ex × Nat × Tk => x.2.2) r := eE_ge1 le0 (fun b hb => ((pIf_ok C.K.it m hok).up (er'.trans hb)).1)
  rw [pIf_eq] at er'
  generalize hEE : eE n (fun x : Ex × Nat × Tk => x.2.2) r = E at *
  refine ⟨64 * (E - t.fr), 1024 * (E - t.fr), ⟨hc, hs⟩, ?_⟩
  dsimp only
  generalize hM : 64 * (E - t.fr) = M at *
  generalize hS : 1024 * (E - t.fr) = S at *
  unfold wo_X2_choice
  refine ⟨nn_of rfl C.K.R.k, ?_⟩
  have hb : isB tp n t (ksb 14) ↔ isSg t 40 = true := isB_s C.K.T.kk (by decide)
  refine px_isG (h := (h.srm M S).srm 0 0) C.K (by decide) ?_
  intro h4 e4
  have e4' : h4 = h.srm M S := by rw [e4]; rfl
  have c4 : h4.c = h.c := by rw [e4']; rfl
  have rc4 : h4.rc = M := by rw [e4']; rfl
  have rs4 : h4.rs = S := by rw [e4']; rfl
  clear e4 e4'
  have C4 : ExC h4.c lo q o jn tpa tp n L A ow z0 g p t d pa := by rw [c4]; exact C
  have F4 : Fr (WE lo q) h.c h4.c := by rw [c4]; exact Fr.refl _
  unfold pOpn at er'
  by_cases hsg : isSg t 40 = true
  rotate_left
  · rw [if_neg hsg] at er'
    rw [if_neg (fun hh => hsg (hb.1 hh))]
    refine brT rfl ⟨nn_of rfl C4.K.R.k, ?_⟩
    exact thw_in F4 C4.K (kk := 2) (by decide) (by rfl) rfl (by omega) (by omega) (h0 _ er'.symm)
  rw [if_pos hsg] at er'
  rw [if_pos (hb.2 hsg)]
  refine brF (by decide) ⟨nn_of rfl C4.K.R.k, ?_⟩
  refine g_opens C4 hsg (by omega) (by omega) ?_ ?_
  rotate_left
  · intro e6
    rw [if_pos e6] at er'
    exact ThR.we' F4 (h0 _ er'.symm)
  intro n6 h9 F9 C9 rc9 rs9
  have upx := C.K.it.up (sg_ne hsg)
  have B9 : 64 * (E - (nxt tp n t).fr) + 59 ≤ h9.rc ∧ 1024 * (E - (nxt tp n t).fr) + 900 ≤ h9.rs := by omega
  clear rc9 rs9 rc4 rs4 hc hs far
  rw [if_neg n6] at er'
  dsimp only at er'
  have hE' := hE (by omega)
  have up1 := C.K.it.up (sg_ne hsg)
  have F9' := F4.trans F9
  have nt1 : nN n (nxt tp n t) := ⟨C9.K.le, C9.K.T.l2⟩
  generalize hr1 : pSE tp n rs (d + 1) pa 44 (nxt tp n t) = r1 at er'
  have u1 : ∀ b, r1 = .ok b → b.2.2.fr ≤ n ∧ nN n b.2.2 ∧ isT tp n b.2.2 ∧ b.2.1 ≤ 24 := fun b hb => by
    have a1 := pSE_up hok C9.K.it m (hr1.trans hb)
    have a2 := pSE_n (fun b hb => hN _ _ b nt1 hb) (hr1.trans hb)
    exact ⟨a2.1, a2, a1.2.1, a1.2.2.1⟩
  have u2 : ∀ (t : Tk) (pa : Nat) (e1 : Ex) (b : Ex × Nat × Tk), isT tp n t → pa ≤ 24 → pI2 tp n rs d e1 pa t = .ok b → t.fr ≤ b.2.2.fr := by
    intro t pa e1 b ht hpa hb
    unfold pI2 at hb
    cases h2 : pSE tp n rs (d + 1) pa 44 t with
    | error x => rw [h2] at hb; exact absurd hb (by simp)
    | ok q2 =>
      rw [h2] at hb
      dsimp only at hb
      have a2 := pSE_up hok ht hpa h2
      unfold pI3 at hb
      cases h3 : pSE tp n rs (d + 1) q2.2.1 41 q2.2.2 with
      | error x => rw [h3] at hb; exact absurd hb (by simp)
      | ok q3 =>
        rw [h3] at hb
        have a3 := pSE_up hok a2.2.1 a2.2.2.1 h3
        cases hb
        show t.fr ≤ q3.2.2.fr
        omega
  have b1 : eE n (fun x : Ex × Nat × Tk => x.2.2) r1 ≤ E := by
    rw [← hEE]
    exact bind_le er' (fun b hb => ⟨(u1 b hb).1, fun b' hb' => u2 _ _ _ _ (u1 b hb).2.2.1 (u1 b hb).2.2.2 hb'⟩)
  refine g_sE (c := 44) (ci := 16) hE' hok hN (by decide) rfl (by decide) C9 hr1 (by omega) (by omega) ?_ (fun e he => by
    rw [he] at er'
    exact ThR.we' F9' (h0 _ er'.symm))
  intro e1 pa1 t1 eo1 x1 h29 F29 C29 X29 rc29 rs29
  rw [eo1] at er' hr1 b1
  dsimp only at er'
  have a1 := pSE_up hok C9.K.it m hr1
  have a11 : (nxt tp n t).fr + 1 ≤ t1.fr := a1.1
  have b1' : t1.fr ≤ E := b1
  have B29 : 64 * (E - t1.fr) + 59 ≤ h29.rc ∧ 1024 * (E - t1.fr) + 900 ≤ h29.rs := ⟨bud64 B9.1 (by omega) b1' rc29, bud1k B9.2 (by omega) b1' rs29⟩
  clear rc29 rs29 B9 b1
  have m1 : pa1 ≤ 24 := a1.2.2.1
  have F29' := F9'.trans F29
  have nt2 : nN n t1 := ⟨C29.K.le, C29.K.T.l2⟩
  unfold pI2 at er'
  generalize hr2 : pSE tp n rs (d + 1) pa1 44 t1 = r2 at er'
  have v1 : ∀ b, r2 = .ok b → b.2.2.fr ≤ n ∧ isT tp n b.2.2 ∧ b.2.1 ≤ 24 := fun b hb => by
    have a1 := pSE_up hok C29.K.it m1 (hr2.trans hb)
    have a2 := pSE_n (fun b hb => hN _ _ b nt2 hb) (hr2.trans hb)
    exact ⟨a2.1, a1.2.1, a1.2.2.1⟩
  have v2 : ∀ (t : Tk) (pa : Nat) (e1 e2 : Ex) (b : Ex × Nat × Tk), isT tp n t → pa ≤ 24 → pI3 tp n rs d e1 e2 pa t = .ok b → t.fr ≤ b.2.2.fr := by
    intro t pa e1 e2 b ht hpa hb
    unfold pI3 at hb
    cases h3 : pSE tp n rs (d + 1) pa 41 t with
    | error x => rw [h3] at hb; exact absurd hb (by simp)
    | ok q3 =>
      rw [h3] at hb
      have a3 := pSE_up hok ht hpa h3
      cases hb
      show t.fr ≤ q3.2.2.fr
      omega
  have b2 : eE n (fun x : Ex × Nat × Tk => x.2.2) r2 ≤ E := by
    rw [← hEE]
    exact bind_le er' (fun b hb => ⟨(v1 b hb).1, fun b' hb' => v2 _ _ _ _ _ (v1 b hb).2.1 (v1 b hb).2.2 hb'⟩)
  refine g_sE (c := 44) (ci := 16) hE' hok hN (by decide) rfl (by decide) C29 hr2 (by omega) (by omega) ?_ (fun e he => by
    rw [he] at er'
    exact ThR.we' F29' (h0 _ er'.symm))
  intro e2 pa2 t2 eo2 x2 h49 F49 C49 X49 rc49 rs49
  rw [eo2] at er' hr2 b2
  dsimp only at er'
  have a2 := pSE_up hok C29.K.it m1 hr2
  have a21 : t1.fr + 1 ≤ t2.fr := a2.1
  have b2' : t2.fr ≤ E := b2
  have B49 : 64 * (E - t2.fr) + 59 ≤ h49.rc ∧ 1024 * (E - t2.fr) + 900 ≤ h49.rs := ⟨bud64 B29.1 (by omega) b2' rc49, bud1k B29.2 (by omega) b2' rs49⟩
  clear rc49 rs49 B29 b2
  have m2 : pa2 ≤ 24 := a2.2.2.1
  have F49' := F29'.trans F49
  have nt3 : nN n t2 := ⟨C49.K.le, C49.K.T.l2⟩
  unfold pI3 at er'
  generalize hr3 : pSE tp n rs (d + 1) pa2 41 t2 = r3 at er'
  have b3 : eE n (fun x : Ex × Nat × Tk => x.2.2) r3 = E := by
    cases r3 with
    | error x => rw [← hEE, ← er']
    | ok b => rw [← hEE, ← er']; rfl
  refine g_sE (c := 41) (ci := 15) hE' hok hN (by decide) rfl (by decide) C49 hr3 (by omega) (by omega) ?_ (fun e he => by
    rw [he] at er'
    exact ThR.we' F49' (h0 _ er'.symm))
  intro e3 pa3 t3 eo3 x3 h69 F69 C69 X69 rc69 rs69
  rw [eo3] at er' hr3 b3
  dsimp only at er'
  have a3 := pSE_up hok C49.K.it m2 hr3
  have a31 : t2.fr + 1 ≤ t3.fr := a3.1
  have b3' : t3.fr = E := b3
  have B69 : 64 * (E - t3.fr) + 59 ≤ h69.rc ∧ 1024 * (E - t3.fr) + 900 ≤ h69.rs := ⟨bud64 B49.1 (by omega) (by omega) rc69, bud1k B49.2 (by omega) (by omega) rs69⟩
  clear rc69 rs69 B49 b3
  have F69' := F49'.trans F69
  refine ⟨nn_of rfl C69.K.R.k, ?_⟩
  rw [show h69.fi 304 q = I (d + 1) from C69.f4, show I (d + 1) - 1 = I d from (I_sub (a := d + 1) (b := 1) (by omega)).trans (by rw [Nat.add_sub_cancel])]
  intro h77 e77
  obtain ⟨C77, F77⟩ := C69.s4 e77 d6
  have F77' := F69'.trans F77
  have r77 : h77.rc = h69.rc ∧ h77.rs = h69.rs := by rw [e77]; exact ⟨rfl, rfl⟩
  have sl1 : 1 ≤ h77.rc ∧ 3 ≤ h77.rs := by constructor <;> omega
  refine ⟨⟨sl1.1, sl1.2⟩, ?_⟩
  intro h78 e78
  have F78 : Fr W0 h77.c h78.c := by rw [e78]; exact (Fr.refl _).new _ _ _
  have k78 : (h78.kd h77.sz).1 = 8 := by rw [e78, new_kd, if_pos rfl]
  have z78 : h78.sz = h77.sz + 1 := by rw [e78]; rfl
  refine px_ifInit (h := h78.srm 0 0) k78 ?_
  intro h80 F80 g0 g1 g2 _ _ h81 e81 h82 e82
  have c82 : h82.c = h80.c := by rw [e82, e81]; rfl
  have F80' : Fr (fun f b => b = h77.sz ∧ 800 ≤ f ∧ f ≤ 802) h78.c h80.c := F80
  have FN : Fr W0 h77.c h80.c := F78.trans' F80' (fun f b hb hh => by have h9 : b < h77.sz := hb; omega)
  have z80 : h78.c.sz ≤ h80.c.sz := F80'.sz
  have z78' : h78.c.sz = h78.sz := rfl
  refine h1 _ _ _ er'.symm h77.sz h82 (by rw [c82]; exact F77'.trans FN.we0) (by rw [c82]; exact C77.keep0 FN) ?_ (by rw [e82, b3', hM]; rfl) (by rw [e82, b3', hS]; rfl)
  rw [c82]
  have Q1 := (((X29.we F49).we F69).we F77).keep FN (fun _ _ _ hh => hh)
  have Q2 := ((X49.we F69).we F77).keep FN (fun _ _ _ hh => hh)
  have Q3 := (X69.we F77).keep FN (fun _ _ _ hh => hh)
  exact PtR.if_ (by omega) (by rw [F80'.kd _ (by omega)]; exact k78) g0 g1 g2 Q1 Q2 Q3

theorem g_part {d : Nat} {rs : Nat → Nat → Tk → ER} {rC rE rP : Nat → AH → (Option Nat → AH → Prop) → (Nat → AH → Prop) → Prop} (hC : SpE lo q o jn tpa tp n L A ow z0 g p (fun pa t => pIf tp n rs d pa t) d rC) (hE : d < 6 → SpE lo q o jn tpa tp n L A ow z0 g p (rs (d + 1)) (d + 1) rE) (hok : ∀ pa t, isT tp n t → pa ≤ 24 → okE tp n A p pa t (rs (d + 1) pa t)) (hN : ∀ pa t b, nN n t → rs (d + 1) pa t = .ok b → nN n b.2.2) :
    SpE lo q o jn tpa tp n L A ow z0 g p (fun pa t => pPt tp n A p rs d pa t) d (wo_X2_part rC rE rP) := by
  intro h t pa r P X C er hc hs h1 h0
  have le0 := C.K.le
  have m := C.m
  have d6 := C.d6
  have W := C.B.W
  have er' : pPt tp n A p rs d pa t = r := er
  have far : t.fr + 1 ≤ eE n (fun x : Ex × Nat × Tk => x.2.2) r := eE_ge1 le0 (fun b hb => ((pPt_ok W C.hp C.K.it m hok).up (er'.trans hb)).1)
  generalize hEE : eE n (fun x : Ex × Nat × Tk => x.2.2) r = E at *
  refine ⟨64 * (E - t.fr), 1024 * (E - t.fr), ⟨hc, hs⟩, ?_⟩
  dsimp only
  generalize hM : 64 * (E - t.fr) = M at *
  generalize hS : 1024 * (E - t.fr) = S at *
  unfold wo_X2_part
  refine ⟨nn_of rfl C.K.R.k, ?_⟩
  have hb : isB tp n t (ksb 14) ↔ isSg t 40 = true := isB_s C.K.T.kk (by decide)
  refine px_isG (h := (h.srm M S).srm 0 0) C.K (by decide) ?_
  intro h4 e4
  have e4' : h4 = h.srm M S := by rw [e4]; rfl
  have c4 : h4.c = h.c := by rw [e4']; rfl
  have rc4 : h4.rc = M := by rw [e4']; rfl
  have rs4 : h4.rs = S := by rw [e4']; rfl
  clear e4 e4'
  have C4 : ExC h4.c lo q o jn tpa tp n L A ow z0 g p t d pa := by rw [c4]; exact C
  have F4 : Fr (WE lo q) h.c h4.c := by rw [c4]; exact Fr.refl _
  have fin : ∀ {U : AH}, Fr (WE lo q) h.c U.c → ∀ e pa' t', r = .ok (e, pa', t') → ∀ a (h' : AH), Fr (WE lo q) U.c h'.c → ExC h'.c lo q o jn tpa tp n L A ow z0 g p t' d pa' → PtR h'.c (Ex.lv e) a e → ∀ h10, h10 = h'.srm (h.rc - M) (h.rs - S) → P (some a) h10 := by
    intro U FU e pa' t' eo a h' F' C' X' h10 e10
    have c10 : h10.c = h'.c := by rw [e10]; rfl
    have eE9 : E = t'.fr := by rw [← hEE, eo]; rfl
    exact h1 e pa' t' eo a h10 (by rw [c10]; exact FU.trans F') (by rw [c10]; exact C') (by rw [c10]; exact X') (by rw [e10, ← eE9, hM]; rfl) (by rw [e10, ← eE9, hS]; rfl)
  unfold pPt at er'
  by_cases hsg : isSg t 40 = true
  · -- brackets
    have k4 : t.kd = 4 := (isSg_iff.1 hsg).1
    have nw : ∀ j, isW tp t j = false := fun j => by
      cases hh : isW tp t j with
      | false => rfl
      | true => have := (isW_iff.1 hh).1; omega
    rw [if_neg (by omega), nw, nw, if_neg (by decide), if_neg (by decide)] at er'
    unfold pOpn at er'
    rw [if_pos hsg] at er'
    rw [if_pos (hb.2 hsg)]
    refine brF (by decide) ⟨nn_of rfl C4.K.R.k, ?_⟩
    refine g_opens C4 hsg (by omega) (by omega) ?_ ?_
    rotate_left
    · intro e6
      rw [if_pos e6] at er'
      exact ThR.we' F4 (h0 _ er'.symm)
    intro n6 h9 F9 C9 rc9 rs9
    rw [if_neg n6] at er'
    dsimp only at er'
    have F9' := F4.trans F9
    have up1 := C.K.it.up (sg_ne hsg)
    refine g_sE (c := 41) (ci := 15) (hE (by omega)) hok hN (by decide) rfl (by decide) C9 er' (by omega) (by omega) ?_ (fun e he => ThR.we' F9' (h0 _ he))
    intro e1 pa1 t1 eo1 x1 h99 F99 C99 X99 rc99 rs99
    refine ⟨nn_of rfl C99.K.R.k, ?_⟩
    rw [show h99.fi 304 q = I (d + 1) from C99.f4, show I (d + 1) - 1 = I d from (I_sub (a := d + 1) (b := 1) (by omega)).trans (by rw [Nat.add_sub_cancel])]
    intro h107 e107
    obtain ⟨C107, F107⟩ := C99.s4 e107 d6
    exact fin (F9'.trans F99) e1 pa1 t1 eo1 x1 h107 F107 C107 (X99.we F107)
  have no40 : pOpn tp n d t = .error (bad t 2) := by unfold pOpn; rw [if_neg hsg]
  rw [no40] at er'
  rw [if_neg (fun hh => hsg (hb.1 hh))]
  refine brT rfl ⟨nn_of rfl C4.K.R.k, ?_⟩
  have hb8 : isB tp n t (ksb 10) ↔ isW tp t 8 = true := isB_w C4.K.T.kk (by decide)
  refine g_takes C4.K (by decide) hb8 (fun _ => by omega) (fun _ => by omega) ?_ ?_
  rotate_left
  · -- if
    intro hw8 h9 F9 K9 rc9 rs9
    have k2 : t.kd = 2 := (isW_iff.1 hw8).1
    have n5 : isW tp t 5 = false := by
      cases hh : isW tp t 5 with
      | false => rfl
      | true =>
        have e := (isW_iff.1 hh).2
        rw [(isW_iff.1 hw8).2] at e
        exact absurd e (by decide)
    rw [if_neg (by omega), n5, if_neg (by decide), if_pos hw8] at er'
    have C9 := C4.go F9 K9
    have up1 := C.K.it.up (w_ne hw8)
    refine brF (by decide) ⟨nn_of rfl K9.R.k, ?_⟩
    refine hC h9 (nxt tp n t) pa r _ _ C9 er' (by omega) (by omega) ?_ (fun e he => ThR.we' (F4.trans F9.we) (h0 _ he))
    intro e pa' t' eo a h' F' C' X' _ _
    exact fin (F4.trans F9.we) e pa' t' eo a h' F' C' X'
  intro hw8
  have hb5 : isB tp n t (ksb 7) ↔ isW tp t 5 = true := isB_w C4.K.T.kk (by decide)
  refine brT rfl ⟨nn_of rfl C4.K.R.k, ?_⟩
  refine px_isG (h := h4.srm 0 0) C4.K (by decide) (pu ?_)
  by_cases hw5 : isW tp t 5 = true
  · -- the own number
    have k2 : t.kd = 2 := (isW_iff.1 hw5).1
    rw [if_neg (by omega), if_pos hw5] at er'
    rw [if_pos (hb5.2 hw5)]
    refine brF (by decide) ⟨nn_of rfl C4.K.R.k, ?_⟩
    refine g_counts C4 (by omega) (by omega) ?_ ?_
    rotate_left
    · intro e24
      rw [if_pos e24] at er'
      have e9 : bad t 6 = (6, t.fr) := by unfold bad; rw [if_neg (by omega)]
      rw [e9] at er'
      exact ThR.we' F4 (h0 _ er'.symm)
    intro n24 h48 F48 C48 rc48 rs48
    rw [if_neg n24] at er'
    refine ⟨nn_of rfl C48.K.R.k, ?_⟩
    refine g_reads C48.K (by omega) (by omega) ?_
    intro h58 F58 K58 rc58 rs58
    have C58 := C48.go F58 K58
    refine ⟨⟨by omega, Nat.zero_le _⟩, ?_⟩
    intro h62 e62
    have F62 : Fr W0 h58.c h62.c := by rw [e62]; exact (Fr.refl _).new _ _ _
    unfold wp_X9_init wp_X7_init
    intro h3 e3 h64 e64
    have c64 : h64.c = h62.c := by rw [e64, e3]; rfl
    refine fin ((F4.trans F48).trans F58.we) _ _ _ er'.symm h58.sz h64 (by rw [c64]; exact F62.we0) (by rw [c64]; exact C58.keep0 F62) ?_
    rw [c64]
    refine PtR.own ?_ ?_
    · rw [e62]; exact Nat.lt_succ_self _
    · rw [e62]
      show ((h58.new 9 0 0).kd h58.sz).1 = 9
      rw [new_kd, if_pos rfl]
  rw [if_neg (fun hh => hw5 (hb5.1 hh))]
  refine brT rfl ⟨nn_of rfl C4.K.R.k, ?_⟩
  have f8 : h4.fi 308 q = if t.kd = 1 then 1 else 0 := C4.K.T.f8
  have f7 : h4.fi 307 q = if dgt tp n t.fr then 1 else 0 := C4.K.T.f7
  rw [f8, f7]
  have k3 := kd3 C4.K
  by_cases hk : t.kd = 3
  · rw [if_pos hk] at er'
    obtain ⟨hd, h9⟩ := k3.1 hk
    rw [if_pos hd, if_neg h9]
    refine brF (by decide) (brT rfl ?_)
    refine g_numOcc h4 t pa r _ _ hk C4 er' (by omega) (by omega) ?_ (fun e he => ThR.we' F4 (h0 _ he))
    intro e pa' t' eo a h' F' C' X' _ _
    exact fin F4 e pa' t' eo a h' F' C' X'
  rw [if_neg hk, if_neg hw5, if_neg (by rw [hw8]; decide)] at er'
  by_cases hd : dgt tp n t.fr = true
  · have h9 : t.kd = 1 := Classical.byContradiction fun hh => hk (k3.2 ⟨hd, hh⟩)
    rw [if_pos hd, if_pos h9]
    refine brF (by decide) (brF (by decide) ?_)
    exact thw_in F4 C4.K (kk := 2) (by decide) (by rfl) rfl (by omega) (by omega) (h0 _ er'.symm)
  · rw [if_neg hd]
    refine brT rfl ?_
    exact thw_in F4 C4.K (kk := 2) (by decide) (by rfl) rfl (by omega) (by omega) (h0 _ er'.symm)
end
