/-! plain: kt -/
set_option maxRecDepth 100000
section
variable {h : AH} {lo q o jn tpa : Nat} {tp : Nat → Nat} {n : Nat} {t : Tk} {L L' : GA} {A A' : PG} {ow ow' : Nat → Nat} {z0 g p : Nat}

theorem pSd_n' {k : Nat} {an : Nat → List Nat} {c : Nat} {b : (Nat → List Nat) × Nat × Tk} (ht : nN n t) (h : pSd tp n k t an c = .ok b) : nN n b.2.2 := by
  have pAt_N : ∀ (f : Nat) (t : Tk) (an : Nat → List Nat) (c had : Nat) (b : (Nat → List Nat) × Nat × Tk), nN n t → pAt tp n f t an c had = .ok b → nN n b.2.2 := by
    intro f
    induction f with
    | zero =>
      intro t an c had b _ h
      have h' : (Except.error _ : Except Fl _) = .ok _ := h
      exact absurd h' (by simp)
    | succ f ih =>
      intro t an c had b ht h
      unfold pAt at h
      split at h
      · split at h
        · cases h
        · split at h
          · cases h
          · split at h
            · exact ih _ _ _ _ _ ht.nx h
            · cases h; exact ht.nx
      · cases h
  unfold pSd at h
  split at h
  · exact pAt_N 6 _ _ _ _ _ ht.nx h
  · cases h; exact ht
theorem pSy_n (ht : nN n t) {b : PG × Tk} (h : pSy tp n A t = .ok b) : nN n b.2 := by
  unfold pSy at h
  split at h
  · cases h
  · split at h
    · split at h
      · cases h
      · split at h
        · cases h
        · rename_i q hq
          have n1 := pSd_n' ht.nx.nx hq
          split at h
          · cases h
          · rename_i r hr
            cases h
            exact pSd_n' n1 hr
    · cases h
theorem pKd_N : ∀ {f : Nat} {t : Tk} {ks : Nat → Nat} {c : Nat} {b : (Nat → Nat) × Nat × Tk}, nN n t → pKd tp n A f t ks c = .ok b → nN n b.2.2
  | 0, _, _, _, _, _, h => by
    have h' : (Except.error _ : Except Fl _) = .ok _ := h
    exact absurd h' (by simp)
  | f + 1, t, ks, c, b, ht, h => by
    unfold pKd at h
    split at h
    · split at h
      · cases h
      · split at h
        · cases h
        · exact pKd_N ht.nx h
    · cases h; exact ht
theorem pPr_n (ht : nN n t) {b : PG × Tk} (h : pPr tp n A t = .ok b) : nN n b.2 := by
  unfold pPr at h
  split at h
  · cases h
  · split at h
    · split at h
      · cases h
      · split at h
        · unfold pPr3 at h
          split at h
          · split at h
            · cases h
            · split at h
              · cases h
              · rename_i q hq
                cases h
                exact pKd_N ht.nx.nx.nx.nx hq
          · cases h
        · cases h
    · cases h
/-- what stands behind a rule's production. -/
def pRl3 (tp : Nat → Nat) (n : Nat) (A : PG) (p : Nat) (u : Nat) (t : Tk) : Except Fl (PG × Tk) :=
  if A.g.tl p u ∧ A.g.rl p u = none then
    match pEat tp n 61 (nxt tp n t) with
    | .error e => .error e
    | .ok t1 => match pSm tp n A p 9 0 0 t1 with
      | .error e => .error e
      | .ok r => .ok (A.addR p u r.1, r.2.2)
  else .error (bad t 5)
theorem pRl2_eq : pRl2 tp n A p t = match rOc tp n A p t with
  | .error e => .error e
  | .ok b => pRl3 tp n A p b.1 b.2 := by
  unfold pRl2 rOc
  by_cases h1 : t.kd = 3
  · rw [if_pos h1, if_pos h1]
    by_cases h2 : t.nu ≤ A.g.kn p
    · rw [if_pos h2, if_pos h2]
      cases pOc tp n A p t.nu (nxt tp n t) with
      | error e => rfl
      | ok b => rfl
    · rw [if_neg h2, if_neg h2]
  · rw [if_neg h1, if_neg h1]
theorem pRl3_n {u : Nat} (ht : nN n t) {b : PG × Tk} (h : pRl3 tp n A p u t = .ok b) : nN n b.2 := by
  unfold pRl3 at h
  split at h
  · split at h
    · cases h
    · rename_i t1 ht1
      split at h
      · cases h
      · rename_i r hr
        cases h
        exact pSm_n 9 0 0 t1 r (pEat_n ht.nx ht1) hr
  · cases h
theorem rOc_n (ht : nN n t) {b : Nat × Tk} (h : rOc tp n A p t = .ok b) : nN n b.2 := by
  unfold rOc at h
  split at h
  · split at h
    · exact pOc_n ht.nx h
    · cases h
  · cases h
theorem pRl_n (ht : nN n t) {b : PG × Tk} (h : pRl tp n A t = .ok b) : nN n b.2 := by
  unfold pRl at h
  split at h
  · split at h
    · cases h
    · rw [pRl2_eq] at h
      split at h
      · cases h
      · rename_i q hq
        exact pRl3_n (rOc_n ht.nx.nx hq) h
  · cases h
theorem pLn0_n (ht : nN n t) {b : PG × Tk} (h : pLn0 tp n A t = .ok b) : nN n b.2 := by
  unfold pLn0 at h
  split at h
  · exact pSy_n ht h
  · split at h
    · exact pPr_n ht h
    · split at h
      · exact pRl_n ht h
      · cases h

/-- what lines write. -/
def WA (lo q : Nat) : Nat → Nat → Prop := fun f a => lo ≤ a ∧ ((a = q ∧ 301 ≤ f ∧ f ≤ 310) ∨ f = 2202 ∨ f = 2203)
def WAz (lo q z0 : Nat) : Nat → Nat → Prop := fun f a => WA lo q f a ∨ z0 ≤ a
theorem Fr.wa {c c' : HC} (F : Fr (WE lo q) c c') : Fr (WAz lo q z0) c c' := F.mono (fun f a _ hh => .inl ⟨hh.1, by have := hh.2; omega⟩)
theorem Fr.wag {c c' : HC} (F : Fr (WG lo q) c c') : Fr (WAz lo q z0) c c' := F.we.wa
theorem Fr.waz {c c' : HC} (F : Fr (WGz lo q z0) c c') : Fr (WAz lo q z0) c c' := F.mono (fun f a _ hh => by
  rcases hh with hh | hh
  · exact .inl ⟨hh.1, by have := hh.2; omega⟩
  · exact .inr hh)
/-- a reader of lines. -/
def LnC (c : HC) (lo q o jn tpa : Nat) (tp : Nat → Nat) (n : Nat) (L : GA) (A : PG) (ow : Nat → Nat) (z0 g : Nat) (t : Tk) : Prop :=
  (RdK c lo q o jn tpa tp n t) ∧
  (GB c L A ow z0 g) ∧
  (c.fr 310 q = some g) ∧
  (NzJ c) ∧
  (∃ d pa, c.fi 303 q = I pa ∧ c.fi 304 q = I d ∧ pa ≤ 24 ∧ d ≤ 6) ∧
  (q < z0) ∧
  (z0 ≤ c.sz)
theorem LnC.K {c : HC} {lo q o jn tpa : Nat} {tp : Nat → Nat} {n : Nat} {L : GA} {A : PG} {ow : Nat → Nat} {z0 g : Nat} {t : Tk} (h9 : LnC c lo q o jn tpa tp n L A ow z0 g t) : RdK c lo q o jn tpa tp n t := h9.1
theorem LnC.B {c : HC} {lo q o jn tpa : Nat} {tp : Nat → Nat} {n : Nat} {L : GA} {A : PG} {ow : Nat → Nat} {z0 g : Nat} {t : Tk} (h9 : LnC c lo q o jn tpa tp n L A ow z0 g t) : GB c L A ow z0 g := h9.2.1
theorem LnC.G {c : HC} {lo q o jn tpa : Nat} {tp : Nat → Nat} {n : Nat} {L : GA} {A : PG} {ow : Nat → Nat} {z0 g : Nat} {t : Tk} (h9 : LnC c lo q o jn tpa tp n L A ow z0 g t) : c.fr 310 q = some g := h9.2.2.1
theorem LnC.J {c : HC} {lo q o jn tpa : Nat} {tp : Nat → Nat} {n : Nat} {L : GA} {A : PG} {ow : Nat → Nat} {z0 g : Nat} {t : Tk} (h9 : LnC c lo q o jn tpa tp n L A ow z0 g t) : NzJ c := h9.2.2.2.1
theorem LnC.x {c : HC} {lo q o jn tpa : Nat} {tp : Nat → Nat} {n : Nat} {L : GA} {A : PG} {ow : Nat → Nat} {z0 g : Nat} {t : Tk} (h9 : LnC c lo q o jn tpa tp n L A ow z0 g t) : ∃ d pa, c.fi 303 q = I pa ∧ c.fi 304 q = I d ∧ pa ≤ 24 ∧ d ≤ 6 := h9.2.2.2.2.1
theorem LnC.zq {c : HC} {lo q o jn tpa : Nat} {tp : Nat → Nat} {n : Nat} {L : GA} {A : PG} {ow : Nat → Nat} {z0 g : Nat} {t : Tk} (h9 : LnC c lo q o jn tpa tp n L A ow z0 g t) : q < z0 := h9.2.2.2.2.2.1
theorem LnC.zs {c : HC} {lo q o jn tpa : Nat} {tp : Nat → Nat} {n : Nat} {L : GA} {A : PG} {ow : Nat → Nat} {z0 g : Nat} {t : Tk} (h9 : LnC c lo q o jn tpa tp n L A ow z0 g t) : z0 ≤ c.sz := h9.2.2.2.2.2.2
theorem LnC.go {c c' : HC} {t' : Tk} (C : LnC c lo q o jn tpa tp n L A ow z0 g t) (F : Fr (WGz lo q z0) c c') (K' : RdK c' lo q o jn tpa tp n t') (B' : GB c' L' A' ow' z0 g) : LnC c' lo q o jn tpa tp n L' A' ow' z0 g t' := by
  have ql := C.K.R.l
  have zq := C.zq
  have nw : ∀ f, f = 303 ∨ f = 304 ∨ f = 310 → ¬ WGz lo q z0 f q := by
    intro f hf hh
    rcases hh with hh | hh
    · have := hh.2; omega
    · omega
  refine ⟨K', B', by rw [F.fr 310 q ql (nw _ (by simp))]; exact C.G, C.J.keep F, ?_, zq, Nat.le_trans C.zs F.sz⟩
  obtain ⟨d, pa, a1, a2, a3⟩ := C.x
  exact ⟨d, pa, by rw [F.fi 303 q ql (nw _ (by simp))]; exact a1, by rw [F.fi 304 q ql (nw _ (by simp))]; exact a2, a3⟩
theorem LnC.gg {c c' : HC} {t' : Tk} (C : LnC c lo q o jn tpa tp n L A ow z0 g t) (F : Fr (WG lo q) c c') (K' : RdK c' lo q o jn tpa tp n t') : LnC c' lo q o jn tpa tp n L A ow z0 g t' := C.go F.wgz K' (C.B.go F)

/-- a rule is read. -/
theorem g_readsRule (C : LnC h.c lo q o jn tpa tp n L A ow z0 g t) (hw : isW tp t 2 = true) {r : Except Fl (PG × Tk)} (er : pRl tp n A t = r)
    (hc : 64 * (eE n (fun x => x.2) r - t.fr) ≤ h.rc) (hs : 1024 * (eE n (fun x => x.2) r - t.fr) ≤ h.rs) {P : AH → Prop} {X : Nat → AH → Prop}
    (h1 : ∀ A' t', r = .ok (A', t') → ∀ h', Fr (WAz lo q z0) h.c h'.c → LnC h'.c lo q o jn tpa tp n L A' ow z0 g t' → h'.rc = h.rc - 64 * (t'.fr - t.fr) → h'.rs = h.rs - 1024 * (t'.fr - t.fr) → P h')
    (h0 : ∀ e, r = .error e → ∀ x h', Fr (WAz lo q z0) h.c h'.c → ThR h'.c x e → X x h') :
    cl h fun mc ms => wp_X2_readsRule q (h.srm mc ms) (fun h3 => ∀ h4, h4 = h3.srm (h.rc - mc) (h.rs - ms) → P h4) (fun q8 h9 => ∀ h10, h10 = h9.srm (h.rc - mc) (h.rs - ms) → X q8 h10) := by
  have K := C.K
  have B := C.B
  have zq := C.zq
  have le0 := K.le
  have nt : nN n t := ⟨le0, K.T.l2⟩
  have up1 := K.it.up (w_ne hw)
  -- positions
  have far : t.fr + 1 ≤ eE n (fun x : PG × Tk => x.2) r := by
    refine eE_ge1 le0 (fun b hb => ?_)
    have h9 := er.trans hb
    unfold pRl at h9
    split at h9
    · split at h9
      · cases h9
      · rename_i p hp9
        rw [pRl2_eq] at h9
        have hpp := (fdN_some.1 hp9).1
        split at h9
        · cases h9
        · rename_i b2 hb2
          have a1 : (nxt tp n (nxt tp n t)).fr ≤ b2.2.fr ∧ isT tp n b2.2 := by
            unfold rOc at hb2
            split at hb2
            · split at hb2
              · rename_i hle
                have a8 := pOc_ok (o := b2.1) (t' := b2.2) B.W hpp hle K.it.nx.nx.nx hb2
                have a9 := K.it.nx.nx.le
                have a7 := a8.2.2.1
                exact ⟨by omega, a8.2.2.2.1⟩
              · cases hb2
            · cases hb2
          unfold pRl3 at h9
          split at h9
          · split at h9
            · cases h9
            · rename_i t1 ht1
              split at h9
              · cases h9
              · rename_i r9 hr9
                cases h9
                have e1 := pEat_ok a1.2.nx ht1
                have e2 := (pSm_ok B.W hpp 9 0 0 t1 e1.2.2.2 (by decide)).up hr9
                have := K.it.nx.le
                have := a1.2.le
                show t.fr + 1 ≤ r9.2.2.fr
                omega
          · cases h9
    · cases h9
  generalize hEE : eE n (fun x : PG × Tk => x.2) r = E at *
  refine ⟨64 * (E - t.fr), 1024 * (E - t.fr), ⟨hc, hs⟩, ?_⟩
  dsimp only
  unfold pRl at er
  unfold wp_X2_readsRule
  refine ⟨nn_of rfl K.R.k, ?_⟩
  refine g_reads (h := h.srm (64 * (E - t.fr)) (1024 * (E - t.fr))) K (by show 5 ≤ 64 * (E - t.fr); omega) (by show 68 ≤ 1024 * (E - t.fr); omega) ?_
  intro h4 F4 K4 rc4 rs4
  have F4' : Fr (WG lo q) h.c h4.c := F4
  have rc4' : h4.rc = 64 * (E - t.fr) - 5 := rc4
  have rs4' : h4.rs = 1024 * (E - t.fr) - 68 := rs4
  have C4 := C.gg F4' K4
  refine ⟨nn_of rfl K4.R.k, ?_⟩
  rw [show h4.fr 310 q = some g from C4.G]
  have thr : ∀ {c1 : HC} {e : Fl} {u v : Nat}, Fr (WAz lo q z0) h.c c1 → r = .error e → ∀ x (h' : AH), Fr (WE lo q) c1 h'.c → ThR h'.c x e → ∀ h10, h10 = h'.srm u v → X x h10 := by
    intro c1 e u v F1 he x h' F' T h10 e10
    have c10 : h10.c = h'.c := by rw [e10]; rfl
    exact h0 _ he x h10 (by rw [c10]; exact F1.trans F'.wa) (by rw [c10]; exact T)
  refine g_prodTold K4 C4.B.pn (by omega) (by omega) (r := if isNm tp (nxt tp n t) then (match fdN A.pn A.g.nP (wrd tp (nxt tp n t)) with | none => .error (bad (nxt tp n t) 3) | some p => .ok p) else .error (bad (nxt tp n t) 2)) rfl ?_ ?_
  rotate_left
  · intro e he x h' F' T
    have he' : r = .error e := by
      rw [← er]
      by_cases hn : isNm tp (nxt tp n t) = true
      · rw [if_pos hn] at he ⊢
        cases hf : fdN A.pn A.g.nP (wrd tp (nxt tp n t)) with
        | none => rw [hf] at he; exact congrArg _ (by simpa using he)
        | some p => rw [hf] at he; exact absurd he (by simp)
      · rw [if_neg hn] at he ⊢
        exact congrArg _ (by simpa using he)
    exact thr F4'.wag he' x h' F'.we T
  intro p _ hn hf h11 F11 K11 rc11 rs11
  rw [if_pos hn, hf] at er
  dsimp only at er
  rw [pRl2_eq] at er
  have hp := (fdN_some.1 hf).1
  have C11 := C4.gg F11 K11
  have F11' := F4'.trans F11
  have up2 := K.it.nx.up (nm_ne hn)
  refine ⟨nn_of rfl K11.R.k, ?_⟩
  intro h19 e19
  have G19 : Fr (fun f a => f = 309 ∧ a = q) h11.c h19.c := by rw [e19]; exact (Fr.refl _).sfr _ (fun _ => ⟨rfl, rfl⟩)
  have lq := K11.R.b
  have K19 := K11.keep G19 (fun f a hh => ⟨by omega, .inl ⟨hh.2, by omega⟩⟩)
  have B19 := C11.B.keepR G19 (fun f a hh => by omega)
  have p19 : h19.fr 309 q = some (L.pa p) := by rw [e19]; exact sfr_same _ _ _ _
  have FA19 : Fr (WAz lo q z0) h.c h19.c := (F11'.wag (z0 := z0)).trans' G19 (fun f a _ hh => .inl ⟨by rw [← K11.L]; omega, by omega⟩)
  have r19 : h19.rc = h11.rc ∧ h19.rs = h11.rs := by rw [e19]; exact ⟨rfl, rfl⟩
  obtain ⟨d0, pa0, x3, x4, x5, x6⟩ := C11.x
  have C19 : ExC h19.c lo q o jn tpa tp n L A ow z0 g p (nxt tp n t) d0 pa0 := ⟨K19, B19, p19, hp, by rw [G19.fi 303 q K11.R.l (by omega)]; exact x3, by rw [G19.fi 304 q K11.R.l (by omega)]; exact x4, x5, x6, C11.J.keep G19⟩
  have g19 : h19.c.fr 310 q = some g := (G19.fr 310 q K11.R.l (by omega)).trans C11.G
  refine g_reads K19 (by omega) (by omega) ?_
  intro h22 F22 K22 rc22 rs22
  have C22 := C19.go F22 K22
  have FA22 := FA19.trans (F22.wag (z0 := z0))
  have nt2 : nN n (nxt tp n (nxt tp n t)) := ⟨K22.le, K22.T.l2⟩
  generalize ho : rOc tp n A p (nxt tp n (nxt tp n t)) = ro at er
  have g22 : h22.c.fr 310 q = some g := (F22.fr 310 q K19.R.l (by unfold WG; omega)).trans g19
  have roK : ∀ b, ro = .ok b → (nxt tp n (nxt tp n t)).fr + 2 ≤ b.2.fr ∧ isT tp n b.2 ∧ isNm tp b.2 = true ∧ b.1 < 32 ∧ b.2.fr ≤ n := by
    intro b hb
    have h9 := ho.trans hb
    have h8 := rOc_n nt2 h9
    unfold rOc at h9
    split at h9
    · rename_i hk
      split at h9
      · rename_i hle
        have a1 := pOc_ok (o := b.1) (t' := b.2) B.W hp hle K22.it.nx h9
        have a2 := K22.it.up (by omega)
        exact ⟨by omega, a1.2.2.2.1, a1.2.2.2.2, a1.1.1, h8.1⟩
      · cases h9
    · cases h9
  have farO : ∀ b, ro = .ok b → b.2.fr + 1 ≤ E := by
    intro b hb
    have k1 := roK b hb
    rw [hb] at er
    dsimp only at er
    rw [← hEE]
    refine eE_ge1 k1.2.2.2.2 (fun b9 hb9 => ?_)
    have h9 := er.trans hb9
    unfold pRl3 at h9
    split at h9
    · split at h9
      · cases h9
      · rename_i t1 ht1
        split at h9
        · cases h9
        · rename_i r9 hr9
          cases h9
          have e1 := pEat_ok k1.2.1.nx ht1
          have e2 := (pSm_ok B.W hp 9 0 0 t1 e1.2.2.2 (by decide)).up hr9
          have := k1.2.1.le
          show b.2.fr + 1 ≤ r9.2.2.fr
          omega
    · cases h9
  -- what is left
  have b22 : 25 ≤ h22.rc ∧ 300 ≤ h22.rs := by
    have : t.fr + 2 ≤ (nxt tp n (nxt tp n t)).fr := by omega
    have l22 := K22.le
    constructor
    · rcases Nat.lt_or_ge E (t.fr + 2) with l | l
      · -- E is small only if nothing is thrown, then ro is well
        cases hro : ro with
        | error x =>
          rw [hro] at er
          have e9 : E = n + 1 := by rw [← hEE, ← er]; rfl
          omega
        | ok b =>
          have := farO b hro
          have := (roK b hro).1
          omega
      · omega
    · rcases Nat.lt_or_ge E (t.fr + 2) with l | l
      · cases hro : ro with
        | error x =>
          rw [hro] at er
          have e9 : E = n + 1 := by rw [← hEE, ← er]; rfl
          omega
        | ok b =>
          have := farO b hro
          have := (roK b hro).1
          omega
      · omega
  refine ⟨nn_of rfl K22.R.k, ?_⟩
  refine g_occ C22 ho (by omega) (by omega) ?_ ?_
  rotate_left
  · intro e he
    rw [he] at er
    exact thr FA22 er.symm
  intro u t2 eo _ _ h29 F29 C29 rc29 rs29
  rw [eo] at er
  dsimp only at er
  obtain ⟨k1, k2, k3, k4, k5⟩ := roK _ eo
  have k1' : (nxt tp n (nxt tp n t)).fr + 2 ≤ t2.fr := k1
  have fO : t2.fr + 1 ≤ E := farO _ eo
  have FA29 := FA22.trans (F29.wa (z0 := z0))
  have P29 := C29.B.pr p hp
  have g29 : h29.c.fr 310 q = some g := (F29.fr 310 q K22.R.l (by unfold WE; omega)).trans g22
  have k4' : u < 32 := k4
  unfold pRl3 at er
  refine ⟨nn_of rfl C29.K.R.k, ?_⟩
  rw [show h29.fr 309 q = some (L.pa p) from C29.P]
  refine ⟨nn_of rfl P29.R.k, ?_⟩
  rw [adr_some]
  refine px_isTold (h := h29.srm 0 0) B.W ⟨fun s hs => (C29.B.sy s hs).R, fun p hp => (C29.B.pr p hp).R⟩ hp (by omega) (pu ?_)
  have w5 : ∀ {U : AH} {c1 : HC}, U.c = h29.c → 1 ≤ U.rc → 8 ≤ U.rs → r = .error (bad t2 5) → cl U fun mc ms => wp_X2_wrong q 5 (U.srm mc ms) fun r' h11 => ∀ h12, h12 = h11.srm (U.rc - mc) (U.rs - ms) → nn h12 r' 5 ∧ ∀ h10, h10 = h12.srm (h.rc - 64 * (E - t.fr)) (h.rs - 1024 * (E - t.fr)) → X (adr r') h10 := by
    intro U c1 hU u1 u2 he
    have KU : RdK U.c lo q o jn tpa tp n t2 := by rw [hU]; exact C29.K
    refine thw_in (c0 := h29.c) (by rw [hU]; exact Fr.refl _) KU (kk := 5) (by decide) (by rfl) (thK_nm (by decide) k3) u1 u2 (fun x h' F' T' => ?_)
    exact h0 _ he x h' (FA29.trans F'.wa) T'
  by_cases ht : A.g.tl p u
  rotate_left
  · rw [if_neg (fun hh => ht hh.1)] at er
    rw [if_neg ht]
    refine brT rfl ⟨nn_of rfl C29.K.R.k, ?_⟩
    exact w5 (c1 := h.c) rfl (by omega) (by omega) er.symm
  rw [if_pos ht]
  refine brF (by decide) ⟨nn_of rfl C29.K.R.k, ?_⟩
  rw [show h29.fr 309 q = some (L.pa p) from C29.P]
  refine ⟨nn_of rfl P29.R.k, ?_⟩
  rw [adr_some, show h29.fr 702 (L.pa p) = some (L.pr p) from P29.u1]
  refine ⟨ix_of rfl (show h29.kd (L.pr p) = (46, 32) from P29.u2) k4' (by decide), ?_⟩
  rw [adr_some, I_ni (by omega)]
  cases hrl : A.g.rl p u with
  | some e9 =>
    rw [if_neg (fun hh => by rw [hrl] at hh; exact absurd hh.2 (by simp))] at er
    obtain ⟨a9, y1, y2⟩ := P29.u5 u e9 k4' hrl
    rw [show h29.ar (L.pr p) u = some a9 from y1]
    refine brF (by simp) ?_
    exact w5 (c1 := h.c) rfl (by omega) (by omega) er.symm
  | none =>
  rw [if_pos ⟨ht, hrl⟩] at er
  rw [show h29.ar (L.pr p) u = none from P29.u4 u k4' hrl]
  refine brT rfl ?_
  refine g_reads C29.K (by omega) (by omega) ?_
  intro h55 F55 K55 rc55 rs55
  have C55 := C29.go F55 K55
  have FA55 := FA29.trans (F55.wag (z0 := z0))
  have up5 : t2.fr + 1 ≤ (nxt tp n t2).fr := k2.up (nm_ne k3)
  have n5 := K55.le
  refine ⟨nn_of rfl K55.R.k, ?_⟩
  have hb : isB tp n (nxt tp n t2) (ksb 13) ↔ isSg (nxt tp n t2) 61 = true := isB_s K55.T.kk (by decide)
  unfold pEat at er
  -- room: t, its name and what follows are gone
  have bud : 64 * (E - t2.fr) + 64 ≤ h55.rc + 32 ∧ 1024 * (E - t2.fr) + 1024 ≤ h55.rs + 512 := by
    constructor <;> omega
  refine g_must K55 (by decide) hb (by omega) (by omega) ?_ ?_
  rotate_left
  · intro hsg x h' F' T
    rw [if_neg (by rw [hsg]; decide)] at er
    exact thr FA55 er.symm x h' F'.we0 T
  intro hsg h62 F62 K62 rc62 rs62
  rw [if_pos hsg] at er
  dsimp only at er
  have C62 := C55.go F62 K62
  have FA62 := FA55.trans (F62.wag (z0 := z0))
  have up6 := K55.it.up (sg_ne hsg)
  refine ⟨nn_of rfl K62.R.k, ?_⟩
  intro h70 e70 h71 e71
  obtain ⟨C70, F70⟩ := C62.s3 (pa' := 0) e70 (by decide)
  obtain ⟨C71, F71⟩ := C70.s4 (d' := 0) e71 (by decide)
  have FA71 := (FA62.trans (F70.wa (z0 := z0))).trans (F71.wa (z0 := z0))
  have r71 : h71.rc = h62.rc ∧ h71.rs = h62.rs := by rw [e71, e70]; exact ⟨rfl, rfl⟩
  have n6 := K62.le
  generalize ht6 : nxt tp n (nxt tp n t2) = t6 at *
  generalize hr6 : pSm tp n A p 9 0 0 t6 = r6 at er
  have E6 : eE n (fun x : Ex × Nat × Tk => x.2.2) r6 = E := by
    cases r6 with
    | error x => rw [← hEE, ← er]; rfl
    | ok b => rw [← hEE, ← er]; rfl
  have hSp := g_expr (lo := lo) (q := q) (o := o) (jn := jn) (tpa := tpa) (tp := tp) (n := n) (L := L) (A := A) (ow := ow) (z0 := z0) (g := g) (p := p) 9 0 24 rfl (by decide) (by decide) B.W hp
  refine hSp h71 t6 0 r6 _ _ C71 hr6 (by omega) (by omega) ?_ ?_
  rotate_left
  · intro e he
    rw [he] at er
    exact thr FA71 er.symm
  intro e9 pa9 t9 eo9 a9 h74 F74 C74 X74 rc74 rs74
  rw [eo9] at er hr6 E6
  dsimp only at er
  have E9 : t9.fr = E := E6
  have hex := (pSm_ok B.W hp 9 0 0 t6 K62.it (by decide) e9 pa9 t9 hr6).1
  have FA74 := FA71.trans (F74.wa (z0 := z0))
  rw [show h71.fr 309 q = some (L.pa p) from C71.P]
  refine ⟨nn_of rfl (C74.B.pr p hp).R.k, ?_⟩
  rw [adr_some]
  have lv := hex.l
  have hm9 := hex.m
  refine px_tells (h := h74.srm 0 0) C74.B hp ht (X74.mono (by omega)) hex ?_
  intro h83 F83 B83 rc83 rs83 h84 e84 h85 e85
  have c85 : h85.c = h83.c := by rw [e85, e84]; rfl
  have F83' : Fr (fun f b => f = 0 ∧ (b = L.pr p ∨ b = L.pk p ∨ b = L.po p)) h74.c h83.c := F83
  have P74 := C74.B.pr p hp
  have zz : ∀ b, ow b ≠ 0 → z0 ≤ b := C74.B.z
  have z1 := zz (L.pr p) (by rw [P74.o4]; unfold tg; omega)
  have z2 := zz (L.pk p) (by rw [P74.o5]; unfold tg; omega)
  have z3 := zz (L.po p) (by rw [P74.o6]; unfold tg; omega)
  have lq2 := C74.K.R.b
  have K83 : RdK h83.c lo q o jn tpa tp n t9 := C74.K.keep F83' (fun f b hh => by
    obtain ⟨e1, e2⟩ := hh
    rcases e2 with e | e | e
    · exact ⟨by omega, .inr (.inr ⟨e1, by rw [e, P74.u2]; decide, by rw [e, P74.u2]; decide⟩)⟩
    · exact ⟨by omega, .inr (.inr ⟨e1, by rw [e, P74.R.k2]; decide, by rw [e, P74.R.k2]; decide⟩)⟩
    · exact ⟨by omega, .inr (.inr ⟨e1, by rw [e, P74.w2]; decide, by rw [e, P74.w2]; decide⟩)⟩)
  have FA83 : Fr (WAz lo q z0) h.c h83.c := FA74.trans' F83' (fun f b _ hh => .inr (by omega))
  have ql := C74.K.R.l
  have g74 : h74.c.fr 310 q = some g := by
    have G1 : Fr (WE lo q) h29.c h74.c := (((F55.we.trans F62.we).trans F70).trans F71).trans F74
    exact (G1.fr 310 q C29.K.R.l (by unfold WE; omega)).trans g29
  refine h1 _ _ er.symm h85 (by rw [c85]; exact FA83) ?_ (by rw [e85, E9]; rfl) (by rw [e85, E9]; rfl)
  rw [c85]
  refine ⟨K83, B83, by rw [F83'.fr 310 q ql (by omega)]; exact g74, C74.J.keep F83', ⟨0, pa9, by rw [F83'.fi 303 q ql (by omega)]; exact C74.f3, by rw [F83'.fi 304 q ql (by omega)]; exact C74.f4, hm9, by decide⟩, zq, ?_⟩
  have s1 : h.c.sz ≤ h83.c.sz := FA83.sz
  have s2 := C.zs
  omega
end
