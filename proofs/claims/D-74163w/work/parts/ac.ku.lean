/-! plain: ku -/
set_option maxRecDepth 100000
section
variable {h : AH} {lo q o jn tpa : Nat} {tp : Nat → Nat} {n : Nat} {t : Tk} {L L' : GA} {A A' : PG} {ow ow' : Nat → Nat} {z0 g p : Nat}

/-- a line is read. -/
theorem g_line (C : LnC h.c lo q o jn tpa tp n L A ow z0 g t) {r : Except Fl (PG × Tk)} (er : pLn tp n A t = r)
    (hc : 64 * (eE n (fun x => x.2) r - t.fr) ≤ h.rc) (hs : 1024 * (eE n (fun x => x.2) r - t.fr) ≤ h.rs) {P : AH → Prop} {X : Nat → AH → Prop}
    (h1 : ∀ A' t', r = .ok (A', t') → ∀ h' L' ow', Fr (WAz lo q z0) h.c h'.c → LnC h'.c lo q o jn tpa tp n L' A' ow' z0 g t' → h'.rc = h.rc - 64 * (t'.fr - t.fr) → h'.rs = h.rs - 1024 * (t'.fr - t.fr) → P h')
    (h0 : ∀ e, r = .error e → ∀ x h', Fr (WAz lo q z0) h.c h'.c → ThR h'.c x e → X x h') :
    cl h fun mc ms => wp_X2_line q (h.srm mc ms) (fun h3 => ∀ h4, h4 = h3.srm (h.rc - mc) (h.rs - ms) → P h4) (fun q8 h9 => ∀ h10, h10 = h9.srm (h.rc - mc) (h.rs - ms) → X q8 h10) := by
  have K := C.K
  have le0 := K.le
  have nt : nN n t := ⟨le0, K.T.l2⟩
  have far : t.fr + 1 ≤ eE n (fun x : PG × Tk => x.2) r := eE_ge1 le0 (fun b hb => (pLn_fr (A' := b.1) (t' := b.2) C.B.W K.it (er.trans hb)).1)
  generalize hEE : eE n (fun x : PG × Tk => x.2) r = E at *
  refine ⟨64 * (E - t.fr), 1024 * (E - t.fr), ⟨hc, hs⟩, ?_⟩
  dsimp only
  generalize hM : 64 * (E - t.fr) = M at *
  generalize hS : 1024 * (E - t.fr) = S at *
  unfold pLn at er
  generalize hr0 : pLn0 tp n A t = r0 at er
  -- the end of the line's body is ahead
  have key : eE n (fun x : PG × Tk => x.2) r0 ≤ E ∧ ∀ b, r0 = .ok b → b.2.fr + 1 ≤ E ∧ t.fr ≤ b.2.fr := by
    cases r0 with
    | error x =>
      have e9 : E = n + 1 := by rw [← hEE, ← er]; rfl
      exact ⟨by rw [eE_er rfl]; omega, fun b hb => absurd hb (by simp)⟩
    | ok b =>
      have nb := pLn0_n nt hr0
      have ib : isT tp n b.2 ∧ t.fr ≤ b.2.fr := by
        have h9 := hr0
        unfold pLn0 at h9
        split at h9
        · have := pSy_fr (A' := b.1) (t' := b.2) K.it h9; exact ⟨this.2.1, this.1⟩
        · split at h9
          · rename_i hw
            have := pPr_fr (A' := b.1) (t' := b.2) K.it (w_ne hw) h9; exact ⟨this.2.1, by omega⟩
          · split at h9
            · have := pRl_fr (A' := b.1) (t' := b.2) C.B.W K.it h9; exact ⟨this.2.1, this.1⟩
            · cases h9
      have h9 : b.2.fr + 1 ≤ E := by
        dsimp only at er
        cases he : pEat tp n 59 b.2 with
        | error x =>
          rw [he] at er
          have e9 : E = n + 1 := by rw [← hEE, ← er]; rfl
          have := nb.1
          omega
        | ok t' =>
          rw [he] at er
          have e9 : E = t'.fr := by rw [← hEE, ← er]; rfl
          have := (pEat_ok ib.1 he).2.2.1
          omega
      refine ⟨by rw [eE_ok rfl]; omega, fun b' hb => ?_⟩
      have e9 : b = b' := by simpa using hb
      rw [← e9]; exact ⟨h9, ib.2⟩
  -- behind the body a semicolon
  have semi : ∀ {U : AH} {A1 : PG} {t1 : Tk} {L1 : GA} {ow1 : Nat → Nat}, r0 = .ok (A1, t1) → Fr (WAz lo q z0) h.c U.c → LnC U.c lo q o jn tpa tp n L1 A1 ow1 z0 g t1 → U.rc = M - 64 * (t1.fr - t.fr) → U.rs = S - 1024 * (t1.fr - t.fr) →
      nn U (some q) 3 ∧ cl U fun mc38 ms39 => wp_X2_must q (sref (U.cs 23)) (U.srm mc38 ms39) (fun h36 => ∀ h37, h37 = h36.srm (U.rc - mc38) (U.rs - ms39) → ∀ h4, h4 = h37.srm (h.rc - M) (h.rs - S) → P h4) (fun q41 h42 => ∀ h43, h43 = h42.srm (U.rc - mc38) (U.rs - ms39) → ∀ h10, h10 = h43.srm (h.rc - M) (h.rs - S) → X q41 h10) := by
    intro U A1 t1 L1 ow1 eo FU CU rcU rsU
    obtain ⟨k1, k2⟩ := key.2 _ eo
    have k1' : t1.fr + 1 ≤ E := k1
    have k2' : t.fr ≤ t1.fr := k2
    rw [eo] at er
    dsimp only at er
    unfold pEat at er
    refine ⟨nn_of rfl CU.K.R.k, ?_⟩
    have hb : isB tp n t1 (ksb 23) ↔ isSg t1 59 = true := isB_s CU.K.T.kk (by decide)
    refine g_must CU.K (by decide) hb (by omega) (by omega) ?_ ?_
    · intro hsg h37 F37 K37 rc37 rs37 h4 e4
      rw [if_pos hsg] at er
      have c4 : h4.c = h37.c := by rw [e4]; rfl
      have eE9 : E = (nxt tp n t1).fr := by rw [← hEE, ← er]; rfl
      exact h1 _ _ er.symm h4 L1 ow1 (by rw [c4]; exact FU.trans F37.wag) (by rw [c4]; exact CU.gg F37 K37) (by rw [e4, ← eE9, hM]; rfl) (by rw [e4, ← eE9, hS]; rfl)
    · intro hsg x h' F' T' h10 e10
      rw [if_neg (by rw [hsg]; decide)] at er
      have c10 : h10.c = h'.c := by rw [e10]; rfl
      exact h0 _ er.symm x h10 (by rw [c10]; exact FU.trans (F'.mono (fun _ _ _ hh => hh.elim))) (by rw [c10]; exact T')
  have bad0 : ∀ e, r0 = .error e → r = .error e := fun e he => by rw [he] at er; exact er.symm
  unfold wp_X2_line
  refine ⟨nn_of rfl K.R.k, ?_⟩
  have hb0 : isB tp n t (ksb 2) ↔ isW tp t 0 = true := isB_w K.T.kk (by decide)
  have hb1 : isB tp n t (ksb 3) ↔ isW tp t 1 = true := isB_w K.T.kk (by decide)
  have hb2 : isB tp n t (ksb 4) ↔ isW tp t 2 = true := isB_w K.T.kk (by decide)
  unfold pLn0 at hr0
  refine px_isG (h := (h.srm M S).srm 0 0) K (by decide) ?_
  intro h4 e4
  have e4' : h4 = h.srm M S := by rw [e4]; rfl
  rw [e4']
  by_cases w0 : isW tp t 0 = true
  · rw [if_pos w0] at hr0
    rw [if_pos (hb0.2 w0)]
    refine brF (by decide) ⟨nn_of rfl K.R.k, ?_⟩
    refine g_readsSymbol (h := h.srm M S) K C.B C.G C.zs C.zq w0 hr0 (by show 64 * (eE n (fun x : PG × Tk => x.2) r0 - t.fr) ≤ M; omega) (by show 1024 * (eE n (fun x : PG × Tk => x.2) r0 - t.fr) ≤ S; omega) ?_ ?_
    · intro A1 t1 eo U L1 ow1 FU KU BU rcU rsU
      exact semi eo FU.waz (C.go FU KU BU) rcU rsU
    · intro e he x h' F' T' h10 e10
      have c10 : h10.c = h'.c := by rw [e10]; rfl
      exact h0 _ (bad0 e he) x h10 (by rw [c10]; exact Fr.wag F') (by rw [c10]; exact T')
  rw [if_neg w0] at hr0
  rw [if_neg (fun hh => w0 (hb0.1 hh))]
  refine brT rfl ⟨nn_of rfl K.R.k, ?_⟩
  refine px_isG (h := (h.srm M S).srm 0 0) K (by decide) ?_
  intro h9 e9
  have e9' : h9 = h.srm M S := by rw [e9]; rfl
  rw [e9']
  by_cases w1 : isW tp t 1 = true
  · rw [if_pos w1] at hr0
    rw [if_pos (hb1.2 w1)]
    refine brF (by decide) ⟨nn_of rfl K.R.k, ?_⟩
    refine g_readsProduction (h := h.srm M S) K C.B C.G C.zs C.zq w1 hr0 (by show 64 * (eE n (fun x : PG × Tk => x.2) r0 - t.fr) ≤ M; omega) (by show 1024 * (eE n (fun x : PG × Tk => x.2) r0 - t.fr) ≤ S; omega) ?_ ?_
    · intro A1 t1 eo U L1 ow1 FU KU BU rcU rsU
      exact semi eo FU.waz (C.go FU KU BU) rcU rsU
    · intro e he x h' F' T' h10 e10
      have c10 : h10.c = h'.c := by rw [e10]; rfl
      exact h0 _ (bad0 e he) x h10 (by rw [c10]; exact Fr.wag F') (by rw [c10]; exact T')
  rw [if_neg w1] at hr0
  rw [if_neg (fun hh => w1 (hb1.1 hh))]
  refine brT rfl ⟨nn_of rfl K.R.k, ?_⟩
  refine px_isG (h := (h.srm M S).srm 0 0) K (by decide) ?_
  intro h14 e14
  have e14' : h14 = h.srm M S := by rw [e14]; rfl
  rw [e14']
  by_cases w2 : isW tp t 2 = true
  · rw [if_pos w2] at hr0
    rw [if_pos (hb2.2 w2)]
    refine brF (by decide) ⟨nn_of rfl K.R.k, ?_⟩
    refine g_readsRule (h := h.srm M S) C w2 hr0 (by show 64 * (eE n (fun x : PG × Tk => x.2) r0 - t.fr) ≤ M; omega) (by show 1024 * (eE n (fun x : PG × Tk => x.2) r0 - t.fr) ≤ S; omega) ?_ ?_
    · intro A1 t1 eo U FU CU rcU rsU
      exact semi eo FU CU rcU rsU
    · intro e he x h' F' T' h10 e10
      have c10 : h10.c = h'.c := by rw [e10]; rfl
      exact h0 _ (bad0 e he) x h10 (by rw [c10]; exact F') (by rw [c10]; exact T')
  rw [if_neg w2] at hr0
  rw [if_neg (fun hh => w2 (hb2.1 hh))]
  refine brT rfl ⟨nn_of rfl K.R.k, ?_⟩
  refine g_wrong (h := h.srm M S) K (k := 2) (by decide) (by rfl) (by show 1 ≤ M; omega) (by show 8 ≤ S; omega) (X := fun x h12 => ∀ h10, h10 = h12.srm (h.rc - M) (h.rs - S) → X x h10) ?_
  intro x h' F' T' h10 e10
  have c10 : h10.c = h'.c := by rw [e10]; rfl
  exact h0 _ (bad0 _ hr0.symm) x h10 (by rw [c10]; exact Fr.mono F' (fun _ _ _ hh => hh.elim)) (by rw [c10]; exact T')

/-- a grammar as it stands when it is read. -/
def CgR (c : HC) (L : GA) (A : PG) (g : Nat) (ind : Nat → Int32) : Prop :=
  (GX c L A.g g) ∧
  (GD L A.g) ∧
  (A.g.IsInd ind) ∧
  (GF c L A.g g ind) ∧
  (RuR c L A.g) ∧
  (PnR c L A g) ∧
  (A.g.WF) ∧
  (A.g.RL) ∧
  (∀ p, p < A.g.nP → (A.pn p).length ≤ 8)
theorem CgR.X {c : HC} {L : GA} {A : PG} {g : Nat} {ind : Nat → Int32} (h9 : CgR c L A g ind) : GX c L A.g g := h9.1
theorem CgR.D {c : HC} {L : GA} {A : PG} {g : Nat} {ind : Nat → Int32} (h9 : CgR c L A g ind) : GD L A.g := h9.2.1
theorem CgR.I {c : HC} {L : GA} {A : PG} {g : Nat} {ind : Nat → Int32} (h9 : CgR c L A g ind) : A.g.IsInd ind := h9.2.2.1
theorem CgR.F {c : HC} {L : GA} {A : PG} {g : Nat} {ind : Nat → Int32} (h9 : CgR c L A g ind) : GF c L A.g g ind := h9.2.2.2.1
theorem CgR.U {c : HC} {L : GA} {A : PG} {g : Nat} {ind : Nat → Int32} (h9 : CgR c L A g ind) : RuR c L A.g := h9.2.2.2.2.1
theorem CgR.N {c : HC} {L : GA} {A : PG} {g : Nat} {ind : Nat → Int32} (h9 : CgR c L A g ind) : PnR c L A g := h9.2.2.2.2.2.1
theorem CgR.W {c : HC} {L : GA} {A : PG} {g : Nat} {ind : Nat → Int32} (h9 : CgR c L A g ind) : A.g.WF := h9.2.2.2.2.2.2.1
theorem CgR.Y {c : HC} {L : GA} {A : PG} {g : Nat} {ind : Nat → Int32} (h9 : CgR c L A g ind) : A.g.RL := h9.2.2.2.2.2.2.2.1
theorem CgR.P {c : HC} {L : GA} {A : PG} {g : Nat} {ind : Nat → Int32} (h9 : CgR c L A g ind) : ∀ p, p < A.g.nP → (A.pn p).length ≤ 8 := h9.2.2.2.2.2.2.2.2
theorem GB.GD {c : HC} (B : GB c L A ow z0 g) : GD L A.g := by
  refine ⟨fun s t hs ht e => ?_, fun s t hs ht e => ?_, fun s t hs ht e => ?_, fun s t hs ht => ?_, fun s p hs hp => ⟨?_, ?_, ?_, ?_⟩, fun p q hp hq e => ?_, fun p q hp hq => ⟨?_, ?_⟩, fun p s hp hs => ⟨?_, ?_⟩, fun p q hp hq e => ?_⟩
  · have a := (B.sy s hs).o1
    rw [e, (B.sy t ht).o1] at a
    unfold tg at a; omega
  · have a := (B.sy s hs).o4
    rw [e, (B.sy t ht).o4] at a
    unfold tg at a; omega
  · have a := (B.sy s hs).o5
    rw [e, (B.sy t ht).o5] at a
    unfold tg at a; omega
  · exact ow_ne (B.sy s hs).o4 (B.sy t ht).o5 (tg_ne (by decide) (by decide) (.inl (by decide)))
  · exact ow_ne (B.sy s hs).o4 (B.pr p hp).o3 (tg_ne (by decide) (by decide) (.inl (by decide)))
  · exact ow_ne (B.sy s hs).o4 (B.pr p hp).o5 (tg_ne (by decide) (by decide) (.inl (by decide)))
  · exact ow_ne (B.sy s hs).o5 (B.pr p hp).o3 (tg_ne (by decide) (by decide) (.inl (by decide)))
  · exact ow_ne (B.sy s hs).o5 (B.pr p hp).o5 (tg_ne (by decide) (by decide) (.inl (by decide)))
  · have a := (B.pr p hp).o7
    rw [e, (B.pr q hq).o7] at a
    unfold tg at a; omega
  · exact ow_ne (B.pr p hp).o7 (B.pr q hq).o3 (tg_ne (by decide) (by decide) (.inl (by decide)))
  · exact ow_ne (B.pr p hp).o7 (B.pr q hq).o5 (tg_ne (by decide) (by decide) (.inl (by decide)))
  · exact ow_ne (B.pr p hp).o7 (B.sy s hs).o4 (tg_ne (by decide) (by decide) (.inl (by decide)))
  · exact ow_ne (B.pr p hp).o7 (B.sy s hs).o5 (tg_ne (by decide) (by decide) (.inl (by decide)))
  · have a := (B.pr p hp).o1
    rw [e, (B.pr q hq).o1] at a
    unfold tg at a; omega
theorem GB.GX {c : HC} (B : GB c L A ow z0 g) : GX c L A.g g :=
  ⟨⟨fun s hs => (B.sy s hs).R, fun p hp => (B.pr p hp).R⟩, ⟨B.k, B.l, B.s1, B.s2, B.p1, B.p2, fun p hp => (B.pr p hp).q1, fun p hp => (B.pr p hp).q2, fun p hp => (B.pr p hp).q3⟩⟩
theorem GB.RuR {c : HC} (B : GB c L A ow z0 g) : RuR c L A.g :=
  ⟨fun p hp => ⟨(B.pr p hp).u1, (B.pr p hp).u2, (B.pr p hp).u3⟩, fun p u hp hu he => (B.pr p hp).u4 u hu he, fun p u e hp hu he => (B.pr p hp).u5 u e hu he, fun p hp => ⟨(B.pr p hp).w1, (B.pr p hp).w2, (B.pr p hp).w3⟩, fun p u hp hu => (B.pr p hp).w4 u hu⟩
/-- what closing leaves as it was. -/
theorem RuR.keep {W : Nat → Nat → Prop} {c c' : HC} {G : Gv} (U : RuR c L G) (F : Fr W c c') (hl : ∀ p, p < G.nP → L.pa p < c.sz) (hf : ∀ f a, f = 702 ∨ f = 704 ∨ f = 1000 ∨ f = 1100 ∨ f = 1200 ∨ f = 1201 ∨ f = 1202 ∨ f = 800 ∨ f = 801 ∨ f = 802 → ¬ W f a) (h0 : ∀ a, (c.kd a).1 = 46 ∨ (c.kd a).1 = 42 → ¬ W 0 a) : RuR c' L G := by
  refine ⟨fun p hp => ?_, fun p u hp hu he => ?_, fun p u e hp hu he => ?_, fun p hp => ?_, fun p u hp hu => ?_⟩
  · obtain ⟨a1, a2, a3⟩ := U.f p hp
    exact ⟨by rw [F.fr _ _ (hl p hp) (hf _ _ (by simp))]; exact a1, by rw [F.kd _ a3]; exact a2, Nat.lt_of_lt_of_le a3 F.sz⟩
  · obtain ⟨a1, a2, a3⟩ := U.f p hp
    rw [F.ar _ a3 (h0 _ (.inl (by rw [a2])))]; exact U.n p u hp hu he
  · obtain ⟨a1, a2, a3⟩ := U.f p hp
    obtain ⟨a, b1, b2⟩ := U.s p u e hp hu he
    exact ⟨a, by rw [F.ar _ a3 (h0 _ (.inl (by rw [a2])))]; exact b1, b2.keep F (fun f b hh => hf f b (by omega))⟩
  · obtain ⟨a1, a2, a3⟩ := U.w p hp
    exact ⟨by rw [F.fr _ _ (hl p hp) (hf _ _ (by simp))]; exact a1, by rw [F.kd _ a3]; exact a2, Nat.lt_of_lt_of_le a3 F.sz⟩
  · obtain ⟨a1, a2, a3⟩ := U.w p hp
    rw [F.ai _ a3 (h0 _ (.inr (by rw [a2])))]; exact U.v p u hp hu
theorem PnR.keep {W : Nat → Nat → Prop} {c c' : HC} (N : PnR c L A g) (F : Fr W c c') (hf : ∀ f a, f = 401 ∨ f = 700 ∨ f = 2301 ∨ f = 2302 ∨ f = 2200 ∨ f = 2201 → ¬ W f a) (h0 : ∀ a, (c.kd a).1 = 44 ∨ (c.kd a).1 = 41 → ¬ W 0 a) : PnR c' L A g := by
  refine ⟨by rw [F.kd _ N.l]; exact N.k, Nat.lt_of_lt_of_le N.l F.sz, by rw [F.fr _ _ N.l (hf _ _ (by simp))]; exact N.p1, N.p2.keep F (hf _ _ (by simp)) (hf _ _ (by simp)) (h0 _ (.inl (by rw [N.p2.dk]))), N.nb, fun p hp => ⟨by rw [F.kd _ (N.pk p hp).2]; exact (N.pk p hp).1, Nat.lt_of_lt_of_le (N.pk p hp).2 F.sz⟩, fun p hp => ?_⟩
  obtain ⟨a, v, e1, e2⟩ := N.n1 p hp
  exact ⟨a, v, by rw [F.fr _ _ (N.pk p hp).2 (hf _ _ (by simp))]; exact e1, e2.keep F (hf _ _ (by simp)) (hf _ _ (by simp)) (h0 _ (.inr (by rw [e2.vk])))⟩
end
