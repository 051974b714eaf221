/-! plain: vf -/
set_option maxRecDepth 100000
section
variable {h : AH} {o jn tpa : Nat} {X : AX} {x y z : Int32} {L : GA} {A : PG} {g : Nat} {ind : Nat → Int32} {Q : Int32 → AH → Prop}

theorem pc_indexOfO {a d m k : Nat} {xx : Nat → Nat} (Y : Ls h.c a d m k xx) (hk : k ≤ 1000) {w j : Nat} (hw : (h.kd w).1 = 6 ∨ (h.kd w).1 = 7 ∨ (h.kd w).1 = 15) (hj : j < k) (ej : xx j = w) (hn : ∀ i, i < j → xx i ≠ w) (hQ : Q (I j) h) : wp_J12_indexOf a (some w) h Q := by
  have hsz : h.fi 2302 a = I k := Y.sz
  have he : h.fr 2301 a = some d := Y.e
  have hmb := Y.mb
  have hnm := Y.nm
  unfold wp_J12_indexOf
  refine ⟨nn_of rfl Y.k, ?_⟩
  rw [hsz]
  unfold wp_J12_indexOfRange
  refine ⟨nn_of rfl Y.k, brF (by simp) ?_⟩
  have he' : (h.srm 0 0).fr 2301 a = some d := he
  rw [he']
  refine xlp_cnt j (fun i s U => s = I i ∧ U = h.srm 0 0) ⟨rfl, rfl⟩ ?_
  rintro i s U K hi ⟨e1, e2⟩ hK
  rw [e1, e2]
  have hik : i < k := by omega
  refine brF (fun hh => by have := (I_le (by omega) (by omega)).1 hh; omega) ⟨ix_of rfl (show (h.srm 0 0).kd d = (44, m) from Y.dk) (by omega) (by omega), ?_⟩
  rw [adr_some d, I_ni (by omega), show (h.srm 0 0).ar d i = some (xx i) from Y.el i hik]
  refine ⟨fun r V => r = (if some w = some (xx i) then 1 else 0) ∧ V = h.srm 0 0, .inr ?_, ?_⟩
  · rcases hw with e | e | e
    · exact .inl ⟨nn_of rfl e, rfl, rfl⟩
    · exact .inr (.inl ⟨nn_of rfl e, rfl, rfl⟩)
    · exact .inr (.inr ⟨nn_of rfl e, rfl, rfl⟩)
  · rintro r V ⟨rfl, rfl⟩
    by_cases ei : i = j
    · subst ei
      rw [if_pos (by rw [ej])]
      exact brF (by decide) (pu hQ)
    · have hne := hn i (by omega)
      rw [if_neg (fun hh => hne (Option.some.inj hh).symm)]
      exact brT rfl (hK _ _ (by omega) ⟨I_add i 1, rfl⟩)
theorem CgR.syI {c : HC} (C : CgR c L A g ind) {s i : Nat} (hs : s < A.g.nS) (hi : i < s) : L.sa i ≠ L.sa s := fun e => by
  have := C.D.sa i s (by omega) hs e
  omega
theorem CgR.pA {c : HC} (C : CgR c L A g ind) {p q : Nat} (hp : p < A.g.nP) (hq : q < A.g.nP) (e : L.pa p = L.pa q) : p = q := C.D.pa p q hp hq e
theorem q_production (R : CRep h.c o jn tpa X) (hQ : ∀ h', CRep h'.c o jn tpa (X.ws (qProduction X x y).2) → Q (qProduction X x y).1 h') : wp_X0_production o x y h Q := by
  unfold wp_X0_production
  refine px_isInR (h := h.srm 0 0) (m := 6) (by decide) (by decide) (pu ?_)
  unfold qProduction at hQ
  by_cases hr : inR y 6
  rotate_left
  · rw [iP_neg hr]
    rw [cif_neg hr] at hQ
    refine ⟨fun v U => v = 1 ∧ U = h, brT rfl ⟨rfl, rfl⟩, ?_⟩
    rintro v U ⟨rfl, rfl⟩
    exact ⟨R.B.nn, qc0 R (fun h' R' _ _ => brT (by decide) (hQ h' R'))⟩
  rw [iP_pos hr]
  rw [cif_pos hr] at hQ
  refine ⟨fun v U => v = (if iP (okP X x) = 0 then 4 else 0) ∧ U = h, brF (by decide) ⟨R.B.nn, px_isProductionR (h := h.srm 0 0) R (pu (fun m hm => ⟨hm, rfl⟩))⟩, ?_⟩
  rintro v U ⟨rfl, rfl⟩
  refine ⟨R.B.nn, qc0 R (fun h' R' c' s' => ?_)⟩
  by_cases hs : okP X x
  rotate_left
  · rw [iP_neg hs] at R' ⊢
    rw [cif_neg hs] at hQ
    exact brT (by decide) (hQ h' R')
  rw [iP_pos hs] at R' ⊢
  rw [cif_pos hs] at hQ
  rw [if_neg (by decide)] at R'
  refine brF (by decide) ?_
  obtain ⟨A, ind, hg, hxs⟩ := hs
  obtain ⟨g, L, a1, C⟩ := R'.cg hg
  have a1' : h'.fr 103 o = some g := a1
  have s1 : h'.fr 401 g = some L.pl := C.X.O.p1
  have s0 : h'.fr 400 g = some L.sl := C.X.O.s1
  rw [hg] at hQ
  dsimp only at hQ
  have hP := C.W.nP
  have hS := C.W.nS
  obtain ⟨k, hk, e⟩ := hxs
  subst e
  rw [I_ni (by omega)] at hQ
  have PR := C.X.S.pr k hk
  have hk3 := C.W.kn k hk
  rw [a1', adr_some, s1, adr_some]
  refine ⟨R'.B.nn, nn_of rfl C.X.O.k, nn_of rfl C.X.O.p2.k, pc_get (h := h'.srm 0 0) C.X.O.p2 hk (pu ⟨.inr (nn_of rfl PR.k), ?_⟩)⟩
  rw [adr_some]
  have f7 : h'.fr 701 (L.pa k) = some (L.ql k) := PR.sf
  have sym : ∀ (j : Nat) (v : Int32), v = I j → j < 1000 → (j ≤ A.g.kn k → Q (I (A.g.sy k j)) h') → (¬ j ≤ A.g.kn k → ∀ h2, CRep h2.c o jn tpa (X.ws 7) → Q (-1) h2) → nn h' (some (L.pa k)) 7 ∧
      wp_X6_children (L.pa k) (h'.srm 0 0) fun r41 h42 => ∀ h43, h43 = h42.srm h'.rc h'.rs →
      ((v ≤ r41 → nn h43 (some o) 1 ∧ nn h43 (h43.fr 103 o) 4 ∧ nn h43 (some (L.pa k)) 7 ∧ nn h43 (h43.fr 701 (L.pa k)) 23 ∧
        wp_J12_get (adr (h43.fr 701 (L.pa k))) v (h43.srm 0 0) fun r49 h50 => ∀ h51, h51 = h50.srm h43.rc h43.rs →
        nn h51 (h43.fr 400 (adr (h43.fr 103 o))) 23 ∧ wp_J12_indexOf (adr (h43.fr 400 (adr (h43.fr 103 o)))) r49 (h51.srm 0 0) fun r53 h54 => ∀ h55, h55 = h54.srm h51.rc h51.rs → Q r53 h55) ∧
       (¬ v ≤ r41 → nn h43 (some o) 1 ∧ wp_X0_none o 7 (h43.srm 0 0) fun r57 h58 => ∀ h59, h59 = h58.srm h43.rc h43.rs → Q r57 h59)) := by
    rintro j v rfl hj hy hn
    refine ⟨nn_of rfl PR.k, px_children (h := h'.srm 0 0) C.W hk PR (pu ?_)⟩
    by_cases hjk : j ≤ A.g.kn k
    · refine brT ((I_le (by omega) (by omega)).2 hjk) ⟨R'.B.nn, nn_of a1' C.X.O.k, nn_of rfl PR.k, nn_of f7 PR.sl.k, ?_⟩
      rw [f7, adr_some, a1', adr_some, s0, adr_some]
      refine px_sym (h := h'.srm 0 0) PR hjk (pu ⟨nn_of rfl C.X.O.s2.k, ?_⟩)
      have hsy := C.W.sy k j hk hjk
      exact pc_indexOfO (h := h'.srm 0 0) C.X.O.s2 (by omega) (.inl (C.X.S.sy _ hsy).k) hsy rfl (fun i hi => C.syI hsy hi) (pu (hy hjk))
    · exact brF (fun hh => hjk ((I_le (by omega) (by omega)).1 hh)) ⟨R'.B.nn, qn0 R' (hn hjk)⟩
  obtain ⟨j, hj, e⟩ := hr
  subst e
  rw [I_ni (by omega)] at hQ
  by_cases e1 : j = 1
  · subst e1
    rw [if_neg (show ¬ I 1 = 0 by decide), if_pos (show I 1 = 1 from rfl)] at hQ
    exact brT rfl (brT rfl ⟨nn_of rfl PR.k, px_children (h := h'.srm 0 0) C.W hk PR (pu (hQ h' R'))⟩)
  by_cases e5 : j = 5
  · subst e5
    rw [if_neg (show ¬ I 5 = 0 by decide), if_neg (show ¬ I 5 = 1 by decide), if_pos (show I 5 = 5 from rfl)] at hQ
    exact brF (by decide) (brT rfl (brF (by decide) ⟨nn_of rfl PR.k, px_rm (h := h'.srm 0 0) C.U C.X.S hk (pu (hQ h' R'))⟩))
  have n1 : ¬ I j = 1 := fun hh => e1 ((I_eq (by omega) (by decide)).1 hh)
  have n5 : ¬ I j = 5 := fun hh => e5 ((I_eq (by omega) (by decide)).1 hh)
  refine brF n1 (brF n5 ?_)
  rw [if_neg n1, if_neg n5] at hQ
  intro m hm
  by_cases e0 : j = 0
  · subst e0
    rw [if_pos (show I 0 = 0 from rfl)] at hQ hm
    exact sym 0 m hm (by decide) (fun _ => hQ h' R') (fun hh => absurd (Nat.zero_le _) hh)
  · have n0 : ¬ I j = 0 := fun hh => e0 ((I0 (by omega)).1 hh)
    rw [if_neg n0] at hQ hm
    refine sym (j - 1) m (hm.trans (I_sub (a := j) (b := 1) (by omega))) (by omega) (fun hh => ?_) (fun hh h2 R2 => ?_)
    · rw [if_pos hh] at hQ; exact hQ h' R'
    · rw [if_neg hh] at hQ; exact hQ h2 R2
end
