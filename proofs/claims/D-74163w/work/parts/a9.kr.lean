/-! plain: kr -/
set_option maxRecDepth 100000
section
variable {h : AH} {lo q o jn tpa : Nat} {tp : Nat → Nat} {n : Nat} {t : Tk} {L L' : GA} {A A' : PG} {ow ow' : Nat → Nat} {z0 g p : Nat}

theorem pJn_le {pt : Nat → Tk → ER} (hr : ∀ pa t b, isT tp n t → pa ≤ 24 → pt pa t = .ok b → t.fr + 1 ≤ b.2.2.fr ∧ isT tp n b.2.2 ∧ b.2.1 ≤ 24) : ∀ (f : Nat) {e : Ex} {pa : Nat} {t : Tk} {b : Ex × Nat × Tk}, isT tp n t → pa ≤ 24 → pJn tp n pt f e pa t = .ok b → t.fr ≤ b.2.2.fr
  | 0, _, _, _, _, _, _, h => by
    unfold pJn at h
    cases h
  | f + 1, e, pa, t, b, ht, hpa, h => by
    unfold pJn at h
    split at h
    · cases h; exact Nat.le_refl _
    · split at h
      · cases h
      · rename_i q hq
        have a1 := hr _ _ q ht.nx hpa hq
        have a2 := pJn_le hr f a1.2.1 a1.2.2 h
        have a3 := ht.le
        omega
theorem PtR.keep2 {c c' : HC} {b : Nat} (F : Fr (fun f x => x = b ∧ 1200 ≤ f ∧ f ≤ 1202) c c') (hb : c.fr 1201 b = none) : ∀ {d a : Nat} {e : Ex}, PtR c d a e → PtR c' d a e
  | 0, _, _, h => h
  | d + 1, a, e, h => by
    have hl := h.1
    have hk := F.kd a hl
    have hcs : c'.cs = c.cs := by
      show c'.bs.2 = c.bs.2
      rw [F.bs]
    have fi1 : c'.fi 1000 a = c.fi 1000 a := F.fi 1000 a hl (by omega)
    have fi2 : c'.fi 1100 a = c.fi 1100 a := F.fi 1100 a hl (by omega)
    refine ⟨Nat.lt_of_lt_of_le hl F.sz, ?_⟩
    rw [hk, hcs, fi1, fi2, F.fr 800 a hl (by omega), F.fr 801 a hl (by omega), F.fr 802 a hl (by omega)]
    rcases h.2 with h | h | h | ⟨h0, k, l, r, el, er, h1, h2, h3, h4, h5, h6⟩ | ⟨h0, x, y, z, ex, ey, ez, h1, h2, h3, h4, h5, h6, h7⟩
    · exact .inl h
    · exact .inr (.inl h)
    · exact .inr (.inr (.inl h))
    · have nb : a ≠ b := fun e9 => by rw [e9, hb] at h2; exact absurd h2 (by simp)
      rw [F.fr 1200 a hl (fun hh => nb hh.1), F.fr 1201 a hl (fun hh => nb hh.1), F.fr 1202 a hl (fun hh => nb hh.1)]
      exact .inr (.inr (.inr (.inl ⟨h0, k, l, r, el, er, h1, h2, h3, PtR.keep2 F hb h4, PtR.keep2 F hb h5, h6⟩)))
    · exact .inr (.inr (.inr (.inr ⟨h0, x, y, z, ex, ey, ez, h1, h2, h3, PtR.keep2 F hb h4, PtR.keep2 F hb h5, PtR.keep2 F hb h6, h7⟩)))
theorem g_expr0 {d : Nat} {rs : Nat → Nat → Tk → ER} {rC rE rP : Nat → AH → (Option Nat → AH → Prop) → (Nat → AH → Prop) → Prop} (hP : SpE lo q o jn tpa tp n L A ow z0 g p (fun pa t => pPt tp n A p rs d pa t) d rP) (hok : ∀ pa t, isT tp n t → pa ≤ 24 → okE tp n A p pa t (pPt tp n A p rs d pa t)) (hN : ∀ pa t b, nN n t → pPt tp n A p rs d pa t = .ok b → nN n b.2.2) :
    SpE lo q o jn tpa tp n L A ow z0 g p (fun pa t => match pPt tp n A p rs d pa t with
      | .error x => .error x
      | .ok q => pJn tp n (fun pa t => pPt tp n A p rs d pa t) 26 q.1 q.2.1 q.2.2) d (wo_X2_expression rC rE rP) := by
  intro h t pa r P X C er hc hs h1 h0
  have le0 := C.K.le
  have m := C.m
  have nt : nN n t := ⟨le0, C.K.T.l2⟩
  have hr : ∀ pa t b, isT tp n t → pa ≤ 24 → pPt tp n A p rs d pa t = .ok b → t.fr + 1 ≤ b.2.2.fr ∧ isT tp n b.2.2 ∧ b.2.1 ≤ 24 := fun pa t b ht hpa hb => by
    have a1 := (hok pa t ht hpa).up hb
    exact ⟨a1.1, a1.2.1, a1.2.2.1⟩
  dsimp only at er
  generalize hr1 : pPt tp n A p rs d pa t = r1 at er
  have far : eE n (fun x : Ex × Nat × Tk => x.2.2) r1 ≤ eE n (fun x : Ex × Nat × Tk => x.2.2) r := bind_le er (fun b hb => ⟨(hN _ _ _ nt (hr1.trans hb)).1, fun b' hb' => by
    have a1 := hr _ _ _ C.K.it m (hr1.trans hb)
    exact pJn_le hr 26 a1.2.1 a1.2.2 hb'⟩)
  generalize hEE : eE n (fun x : Ex × Nat × Tk => x.2.2) r = E at *
  have far1 : t.fr + 1 ≤ eE n (fun x : Ex × Nat × Tk => x.2.2) r1 := eE_ge1 le0 (fun b hb => (hr _ _ _ C.K.it m (hr1.trans hb)).1)
  refine ⟨64 * (E - t.fr), 1024 * (E - t.fr), ⟨hc, hs⟩, ?_⟩
  dsimp only
  generalize hM : 64 * (E - t.fr) = M at *
  generalize hS : 1024 * (E - t.fr) = S at *
  unfold wo_X2_expression
  refine ⟨nn_of rfl C.K.R.k, ?_⟩
  refine hP (h.srm M S) t pa r1 _ _ C hr1 (by show 64 * (eE n (fun x : Ex × Nat × Tk => x.2.2) r1 - t.fr) ≤ M; omega) (by show 1024 * (eE n (fun x : Ex × Nat × Tk => x.2.2) r1 - t.fr) ≤ S; omega) ?_ ?_
  rotate_left
  · intro e he
    rw [he] at er
    exact ThR.we' (Fr.refl h.c) (h0 _ er.symm)
  intro e1 pa1 t1 eo1 a1 h4 F4 C4 X4 rc4 rs4
  rw [eo1] at er hr1 far
  dsimp only at er
  have F4' : Fr (WE lo q) h.c h4.c := F4
  have u1 := hr _ _ _ C.K.it m hr1
  have u11 : t.fr + 1 ≤ t1.fr := u1.1
  have far' : t1.fr ≤ E := far
  have q1 : pa + 1 ≤ pa1 := ((hok pa t C.K.it m).up hr1).2.2.2
  have rc4' : h4.rc = 64 * (E - t1.fr) := by
    rw [rc4]
    show M - 64 * (t1.fr - t.fr) = _
    omega
  have rs4' : h4.rs = 1024 * (E - t1.fr) := by
    rw [rs4]
    show S - 1024 * (t1.fr - t.fr) = _
    omega
  -- a part, then what joins: the state at the loop's head
  have next : ∀ (f : Nat) (e : Ex) (pa : Nat) (t1 : Tk), isT tp n t1 → pa ≤ 24 → t1.fr ≤ n → pJn tp n (fun pa t => pPt tp n A p rs d pa t) (f + 1) e pa t1 = r → jnt tp t1 ≠ none → (nxt tp n t1).to ≤ n → (nxt tp n t1).fr ≤ n → t1.fr + 1 ≤ (nxt tp n t1).fr ∧ (nxt tp n t1).fr + 1 ≤ E := by
    intro f e pa t1 it hpa hle hj hjn hto hfr
    cases hj2 : jnt tp t1 with
    | none => exact absurd hj2 hjn
    | some c =>
      have up := it.up (jnt_ok hj2).1
      refine ⟨up, ?_⟩
      unfold pJn at hj
      rw [hj2] at hj
      dsimp only at hj
      rw [← hEE]
      refine eE_ge1 hfr (fun b hb => ?_)
      rw [hb] at hj
      cases h2 : pPt tp n A p rs d pa (nxt tp n t1) with
      | error x => rw [h2] at hj; exact absurd hj (by simp)
      | ok q2 =>
        rw [h2] at hj
        have a1 := hr _ _ _ it.nx hpa h2
        have a2 := pJn_le hr f a1.2.1 a1.2.2 hj
        show (nxt tp n t1).fr + 1 ≤ b.2.2.fr
        omega
  -- joins at t1: then the loop's state
  have jst : ∀ {U : AH} {e : Ex} {pa : Nat} {t1 : Tk} {a f : Nat} {R : Option Nat → AH → Prop}, Fr (WE lo q) h.c U.c → ExC U.c lo q o jn tpa tp n L A ow z0 g p t1 d pa → PtR U.c (Ex.lv e) a e → pJn tp n (fun pa t => pPt tp n A p rs d pa t) (f + 1) e pa t1 = r → 64 * (E - t1.fr) ≤ U.rc → 1024 * (E - t1.fr) ≤ U.rs →
      (∀ s V, Fr (WE lo q) h.c V.c → PtR V.c (Ex.lv e) a e → ((jnt tp t1 = none ∧ s = none ∧ ExC V.c lo q o jn tpa tp n L A ow z0 g p t1 d pa) ∨ (∃ (k : Fin 8) (ja : Nat), jnt tp t1 = some (jc k) ∧ s = some ja ∧ sref (V.cs (600 + k.val)) = some ja ∧ ExC V.c lo q o jn tpa tp n L A ow z0 g p (nxt tp n t1) d pa ∧ 64 * (E - (nxt tp n t1).fr) + 50 ≤ V.rc ∧ 1024 * (E - (nxt tp n t1).fr) + 900 ≤ V.rs)) → R s V) →
      cl U fun mc ms => wp_X2_joins q (U.srm mc ms) fun r' h3 => ∀ h4, h4 = h3.srm (U.rc - mc) (U.rs - ms) → R r' h4 := by
    intro U e pa t1 a f R FU CU XU hj rcU rsU hR
    have hnx := nxt_n (tp := tp) CU.K.T.l2
    refine g_joins CU.K CU.J (fun hjn => ?_) (fun hjn => ?_) ?_ ?_
    · have := next f e pa t1 CU.K.it CU.m CU.K.le hj hjn hnx.2 hnx.1
      omega
    · have := next f e pa t1 CU.K.it CU.m CU.K.le hj hjn hnx.2 hnx.1
      omega
    · intro hjn V FV KV _ _
      exact hR none V (FU.trans FV.we) (XU.we FV.we) (.inl ⟨hjn, rfl, CU.go FV KV⟩)
    · intro k hjk V FV KV rcV rsV ja hja
      have := next f e pa t1 CU.K.it CU.m CU.K.le hj (by rw [hjk]; simp) hnx.2 hnx.1
      have ez : V.cs (600 + k.val) = U.cs (600 + k.val) := by
        show V.c.bs.2 _ = U.c.bs.2 _
        rw [FV.bs]
      exact hR (some ja) V (FU.trans FV.we) (XU.we FV.we) (.inr ⟨k, ja, hjk, rfl, by rw [ez]; exact hja, CU.go FV KV, by omega, by omega⟩)
  refine ⟨nn_of rfl C4.K.R.k, ?_⟩
  refine jst (f := 25) F4' C4 X4 er (by omega) (by omega) ?_
  intro s0 h14 F14 X14 hs14
  refine ⟨fun f s U => ∃ e pa t1 a, pJn tp n (fun pa t => pPt tp n A p rs d pa t) f e pa t1 = r ∧ 27 ≤ f + pa ∧ pa ≤ 24 ∧ s.1 = some a ∧ Fr (WE lo q) h.c U.c ∧ PtR U.c (Ex.lv e) a e ∧ ((jnt tp t1 = none ∧ s.2 = none ∧ ExC U.c lo q o jn tpa tp n L A ow z0 g p t1 d pa) ∨ (∃ (k : Fin 8) (ja : Nat), jnt tp t1 = some (jc k) ∧ s.2 = some ja ∧ sref (U.cs (600 + k.val)) = some ja ∧ ExC U.c lo q o jn tpa tp n L A ow z0 g p (nxt tp n t1) d pa ∧ 64 * (E - (nxt tp n t1).fr) + 50 ≤ U.rc ∧ 1024 * (E - (nxt tp n t1).fr) + 900 ≤ U.rs)),
    ⟨26, e1, pa1, t1, a1, er, by omega, u1.2.2, rfl, F14, X14, hs14⟩, ?_⟩
  rintro f ⟨s1, s2⟩ U ⟨e, pa2, t2, a, hj, hf, hpa2, es, FU, XU, hst⟩
  obtain ⟨f', rfl⟩ : ∃ f', f = f' + 1 := ⟨f - 1, by omega⟩
  have es1 : s1 = some a := es
  rw [es1]
  rcases hst with ⟨hjn, es2, CU⟩ | ⟨k, ja, hjk, es2, hja, CU, rcU, rsU⟩
  · have es2' : s2 = none := es2
    rw [es2']
    refine brT rfl ?_
    unfold pJn at hj
    rw [hjn] at hj
    intro h10 e10
    have c10 : h10.c = U.c := by rw [e10]; rfl
    have eE9 : E = t2.fr := by rw [← hEE, ← hj]; rfl
    exact h1 _ _ _ hj.symm a h10 (by rw [c10]; exact FU) (by rw [c10]; exact CU) (by rw [c10]; exact XU) (by rw [e10, ← eE9, hM]; rfl) (by rw [e10, ← eE9, hS]; rfl)
  · have es2' : s2 = some ja := es2
    rw [es2']
    have hj0 := hj
    unfold pJn at hj
    rw [hjk] at hj
    dsimp only at hj
    refine brF (by simp) ⟨⟨by omega, by omega⟩, ?_⟩
    intro h21 e21
    have F21 : Fr W0 U.c h21.c := by rw [e21]; exact (Fr.refl _).new _ _ _
    have k21 : (h21.kd U.sz).1 = 12 := by rw [e21, new_kd, if_pos rfl]
    have z21 : h21.sz = U.sz + 1 := by rw [e21]; rfl
    have r21 : h21.rc = U.rc - 1 ∧ h21.rs = U.rs - 3 := by rw [e21]; exact ⟨rfl, rfl⟩
    have C21 := CU.keep0 F21
    refine ⟨nn_of rfl C21.K.R.k, ?_⟩
    generalize hr2 : pPt tp n A p rs d pa2 (nxt tp n t2) = r2 at hj
    have ntu : nN n (nxt tp n t2) := ⟨CU.K.le, CU.K.T.l2⟩
    have far2 : eE n (fun x : Ex × Nat × Tk => x.2.2) r2 ≤ E := by
      rw [← hEE]
      exact bind_le hj (fun b hb => ⟨(hN _ _ _ ntu (hr2.trans hb)).1, fun b' hb' => by
        have a1 := hr _ _ _ CU.K.it hpa2 (hr2.trans hb)
        exact pJn_le hr f' a1.2.1 a1.2.2 hb'⟩)
    refine hP h21 (nxt tp n t2) pa2 r2 _ _ C21 hr2 (by omega) (by omega) ?_ ?_
    rotate_left
    · intro x hx
      rw [hx] at hj
      exact ThR.we' (FU.trans F21.we0) (h0 _ hj.symm)
    intro e3 pa3 t3 eo3 a3 h25 F25 C25 X25 rc25 rs25
    rw [eo3] at hj hr2 far2
    dsimp only at hj
    have u3 := hr _ _ _ CU.K.it hpa2 hr2
    have u31 : (nxt tp n t2).fr + 1 ≤ t3.fr := u3.1
    have q3 : pa2 + 1 ≤ pa3 := ((hok pa2 _ CU.K.it hpa2).up hr2).2.2.2
    have far2' : t3.fr ≤ E := far2
    have k25 : (h25.kd U.sz).1 = 12 := by
      show (h25.c.kd U.sz).1 = 12
      rw [F25.kd _ (by show U.sz < h21.sz; omega)]; exact k21
    refine px_twoInit (h := h25.srm 0 0) k25 ?_
    intro h33 F33 g0 g1 g2 _ _ h34 e34
    have c34 : h34.c = h33.c := by rw [e34]; rfl
    have r34 : h34.rc = h25.rc ∧ h34.rs = h25.rs := by rw [e34]; exact ⟨rfl, rfl⟩
    have F34 : Fr (fun f b => b = U.sz ∧ 1200 ≤ f ∧ f ≤ 1202) h25.c h34.c := by rw [c34]; exact F33
    have FN : Fr (WE lo q) U.c h34.c := (F21.we0.trans F25).trans' F34 (fun f b hb hh => by have h9 : b < U.sz := hb; omega)
    have z25 : h21.c.sz ≤ h25.c.sz := F25.sz
    have z21' : h21.c.sz = h21.sz := rfl
    have z34 : h25.c.sz ≤ h34.c.sz := F34.sz
    have qs : q < U.sz := CU.K.R.l
    have C34 : ExC h34.c lo q o jn tpa tp n L A ow z0 g p t3 d pa3 := by
      have lq := C25.K.R.b
      exact ⟨C25.K.keep F34 (fun f a hh => ⟨by omega, .inr (.inl (by omega))⟩), CU.B.keepR FN (fun _ _ hh => hh.fl), by rw [F34.fr 309 q C25.K.R.l (by omega)]; exact C25.P, C25.hp, by rw [F34.fi 303 q C25.K.R.l (by omega)]; exact C25.f3, by rw [F34.fi 304 q C25.K.R.l (by omega)]; exact C25.f4, C25.m, C25.d6, C25.J.keep F34⟩
    -- the right part's own objects are new
    have n25 : h25.c.fr 1201 U.sz = none := by
      rw [F25.fr 1201 U.sz (by show U.sz < h21.sz; omega) (fun hw => by have := hw.fl; omega)]
      show h21.fr 1201 U.sz = none
      rw [e21, new_fr, if_pos rfl]
    have XR : PtR h34.c (Ex.lv e3) a3 e3 := PtR.keep2 F34 n25 X25
    have X34 : PtR h34.c (Ex.lv (e ++ e3 ++ [(jc k, 0)])) U.sz (e ++ e3 ++ [(jc k, 0)]) := by
      refine PtR.two (k := k) (by omega) (by rw [F34.kd _ (by omega)]; exact k25) ?_ ?_ ?_ (XU.we FN) XR
      · rw [c34]
        show h33.fr 1200 U.sz = _
        rw [g0]
        have ez : h33.c.cs (600 + k.val) = U.cs (600 + k.val) := by
          show h33.c.bs.2 _ = U.c.bs.2 _
          rw [← c34, FN.bs]
        rw [ez]; exact hja.symm
      · rw [c34]; exact g1
      · rw [c34]; exact g2
    refine ⟨nn_of rfl C34.K.R.k, ?_⟩
    obtain ⟨f'', rfl⟩ : ∃ f'', f' = f'' + 1 := ⟨f' - 1, by omega⟩
    refine jst (f := f'') (FU.trans FN) C34 X34 hj (by omega) (by omega) ?_
    intro s V FV XV hsV
    exact ⟨f'' + 1, Nat.lt_succ_self _, _, pa3, t3, U.sz, hj, by omega, u3.2.2, rfl, FV, XV, hsV⟩

/-- a whole expression. -/
theorem g_expr : ∀ (f d dd : Nat), f + d = 9 → d ≤ 6 → 3 * (6 - d) + 3 ≤ dd → (hW : A.g.WF) → (hp : p < A.g.nP) → SpE lo q o jn tpa tp n L A ow z0 g p (fun pa t => pSm tp n A p f d pa t) d (wp_X2_expression dd)
  | 0, d, dd, h9, h6, hdd, _, _ => absurd h9 (by omega)
  | f + 1, d, dd, h9, h6, hdd, hW, hp => by
    obtain ⟨d1, rfl⟩ : ∃ d1, dd = d1 + 3 := ⟨dd - 3, by omega⟩
    have hok := pSm_ok (tp := tp) (n := n) hW hp f (d + 1)
    have hN := fun pa t b hb h => pSm_n (tp := tp) (n := n) (A := A) (p := p) f (d + 1) pa t b hb h
    have hE : ∀ d2, d1 ≤ d2 → d < 6 → SpE lo q o jn tpa tp n L A ow z0 g p (pSm tp n A p f (d + 1)) (d + 1) (wp_X2_expression d2) := fun d2 h2 hd => g_expr f (d + 1) d2 (by omega) (by omega) (by omega) hW hp
    have hC : SpE lo q o jn tpa tp n L A ow z0 g p (fun pa t => pIf tp n (pSm tp n A p f) d pa t) d (wp_X2_choice (d1 + 1)) := g_choice (rC := wp_X2_choice d1) (rP := wp_X2_part d1) (hE d1 (Nat.le_refl _)) hok hN
    have hP : SpE lo q o jn tpa tp n L A ow z0 g p (fun pa t => pPt tp n A p (pSm tp n A p f) d pa t) d (wp_X2_part (d1 + 2)) := g_part (rP := wp_X2_part (d1 + 1)) hC (hE (d1 + 1) (by omega)) hok hN
    exact g_expr0 (rC := wp_X2_choice (d1 + 2)) (rE := wp_X2_expression (d1 + 2)) hP (fun pa t ht hpa => pPt_ok hW hp ht hpa hok) (fun pa t b hb h => pPt_n hb hN h)
end
