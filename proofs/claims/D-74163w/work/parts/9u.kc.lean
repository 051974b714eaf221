/-! plain: kc -/
set_option maxRecDepth 100000
section
variable {h : AH} {q o jn tpa : Nat} {tp : Nat → Nat} {n p : Nat}

theorem px_reads (R : RdR h.c q o jn tpa tp n) (hp : h.fi 302 q = I p) (hpn : p ≤ n) (hrc : h.rc = 5) (hrs : h.rs = 68) {Q : AH → Prop} (hQ : ∀ h', Fr (WRd q) h.c h'.c → CkR h'.c q tp n (tok tp n p) → Q h') : wp_X2_reads q h Q := by
  have hm := R.m
  have qlt : q < h.sz := R.l
  have lob : h.lo ≤ q := R.b
  have hS0 := eS_ok (tp := tp) (n := n) p
  have eSn : eS tp n p ≤ n := by
    rcases Nat.lt_or_ge n (eS tp n p) with l | l
    · have := hS0.2.1 n hpn l
      rw [spc_n (Nat.le_refl _)] at this
      exact absurd this (by decide)
    · exact l
  unfold wp_X2_reads
  refine ⟨nn_of rfl R.k, ?_⟩
  rw [hp]
  intro h2 e2
  have F2 : Fr (WRd q) h.c h2.c := by rw [e2]; exact (Fr.refl _).sfi _ (fun _ => ⟨rfl, by simp⟩)
  have eT : tok tp n p = tokA tp n (eS tp n p) := rfl
  rw [eT] at hQ
  generalize eS tp n p = fr at *
  refine xlp_cnt (fr - p) (fun k _ U => Fr (WRd q) h.c U.c ∧ U.fi 301 q = I (p + k) ∧ U.rc = 5 ∧ U.rs = 68) ⟨F2, by rw [e2, sfi_same]; rfl, by rw [e2]; exact hrc, by rw [e2]; exact hrs⟩ ?_
  intro k _ U K hk hh hK
  obtain ⟨F, f1, c1, c2⟩ := hh
  have RU := R.go F
  refine ⟨nn_of rfl RU.k, ?_⟩
  rw [f1]
  have el := hS0.1
  -- one more
  have go : p + k < fr → ∀ V : AH, V = U.sfi 301 q (I (p + k) + 1) → K () V := by
    intro hl V hV
    rw [show I (p + k) + 1 = I (p + (k + 1)) from I_add _ 1] at hV
    exact hK () V (by omega) ⟨F.trans (by rw [hV]; exact (Fr.refl _).sfi _ (fun _ => ⟨rfl, by simp⟩)), by rw [hV, sfi_same], by rw [hV]; exact c1, by rw [hV]; exact c2⟩
  refine px_isAt (h := U.srm 0 0) (lo := 32) (hi := 32) RU (by omega) (by decide) (by decide) ?_
  intro h8 e8
  have e8' : h8 = U := by rw [e8]; rfl
  rw [e8']
  have hsp := inB_spc (tp := tp) (n := n) (p + k)
  by_cases b32 : inB tp n 32 32 (p + k) = true
  · rw [if_pos b32]
    refine brF (by decide) ⟨nn_of rfl RU.k, ?_⟩
    rw [f1]
    refine go ?_
    rw [b32, Bool.true_or] at hsp
    rcases Nat.lt_or_ge (p + k) fr with l | l
    · exact l
    · have e : p + k = fr := by omega
      rw [e, hS0.2.2] at hsp
      exact absurd hsp (by decide)
  rw [if_neg b32]
  refine brT rfl ⟨nn_of rfl RU.k, ?_⟩
  rw [f1]
  refine px_isAt (h := U.srm 0 0) (lo := 10) (hi := 10) RU (by omega) (by decide) (by decide) ?_
  intro h15 e15
  have e15' : h15 = U := by rw [e15]; rfl
  rw [e15']
  by_cases b10 : inB tp n 10 10 (p + k) = true
  · rw [if_pos b10]
    refine brF (by decide) ⟨nn_of rfl RU.k, ?_⟩
    rw [f1]
    refine go ?_
    rw [b10, Bool.or_true] at hsp
    rcases Nat.lt_or_ge (p + k) fr with l | l
    · exact l
    · have e : p + k = fr := by omega
      rw [e, hS0.2.2] at hsp
      exact absurd hsp (by decide)
  rw [if_neg b10]
  have hfr : p + k = fr := by
    rcases Nat.lt_or_ge (p + k) fr with l | l
    · have h1 := hS0.2.1 (p + k) (by omega) l
      have h2 : spc tp n (p + k) = false := by
        rw [← hsp]
        have a1 : inB tp n 32 32 (p + k) = false := by simpa using b32
        have a2 : inB tp n 10 10 (p + k) = false := by simpa using b10
        rw [a1, a2]; rfl
      rw [h1] at h2
      exact absurd h2 (by decide)
    · omega
  rw [hfr] at f1
  clear go hK hk b32 b10 hsp
  -- the token begins
  refine brT rfl ⟨nn_of rfl RU.k, ?_⟩
  rw [f1]
  intro h18 e18
  have F18 : Fr (WRd q) U.c h18.c := by rw [e18]; exact (Fr.refl _).sfi _ (fun _ => ⟨rfl, by simp⟩)
  have R18 := RU.go F18
  have a18 : h18.fi 301 q = I fr := by rw [e18, sfi_ne U q _ q (by decide)]; exact f1
  rw [a18]
  refine px_isAt (h := h18.srm 0 0) (lo := 48) (hi := 57) R18 (by omega) (by decide) (by decide) ?_
  rw [inB_dgt]
  intro h21 e21
  have e21' : h21 = h18 := by rw [e21]; rfl
  rw [e21']
  refine ⟨nn_of rfl R18.k, ?_, ?_⟩
  · cases dgt tp n fr
    · exact .inl rfl
    · exact .inr rfl
  intro h23 e23
  have F23 : Fr (WRd q) h18.c h23.c := by rw [e23]; exact (Fr.refl _).sfi _ (fun _ => ⟨rfl, by simp⟩)
  have R23 := R18.go F23
  have a23 : h23.fi 301 q = I fr := by rw [e23, sfi_ne h18 q _ q (by decide)]; exact a18
  rw [a23]
  refine px_isAt (h := h23.srm 0 0) (lo := 97) (hi := 122) R23 (by omega) (by decide) (by decide) ?_
  rw [inB_ltr]
  intro h26 e26
  have e26' : h26 = h23 := by rw [e26]; rfl
  rw [e26']
  refine ⟨nn_of rfl R23.k, ?_⟩
  intro h28 e28
  have F28 : Fr (WRd q) h.c h28.c := (F.trans F18).trans (F23.trans (by rw [e28]; exact (Fr.refl _).sfi _ (fun _ => ⟨rfl, by simp⟩)))
  have g1 : h28.fi 301 q = I fr := by rw [e28, sfi_ne h23 q _ q (by decide)]; exact a23
  have g2 : h28.fi 302 q = I fr := by rw [e28, sfi_ne h23 q _ q (by decide), e23, sfi_ne h18 q _ q (by decide), e18, sfi_same]
  have g7 : h28.fi 307 q = if dgt tp n fr then 1 else 0 := by rw [e28, sfi_ne h23 q _ q (by decide), e23, sfi_same]
  have g6 : h28.fi 306 q = 0 := by rw [e28, sfi_same]
  have c28 : h28.rc = 5 ∧ h28.rs = 68 := by rw [e28, e23, e18]; exact ⟨c1, c2⟩
  have sz28 : h.sz ≤ h28.sz := F28.sz
  have lo28 : h28.lo ≤ h28.sz := by
    have h1 : h28.c.lo = h.c.lo := by unfold HC.lo; rw [F28.bs]
    have h3 : h28.lo = h.lo := h1
    omega
  clear e28 e26 e26' e23 e21 e21' e18 e15 e15' e8 e8' F23 F18 R18 R23 a18 a23
  refine ⟨⟨by rw [c28.1]; omega, by rw [c28.2]; omega⟩, ?_⟩
  intro h29 e29
  have F29 : Fr W0 h28.c h29.c := by rw [e29]; exact (Fr.refl _).new _ _ _
  have k29 : (h29.kd h28.sz).1 = 21 := by rw [e29, new_kd, if_pos rfl]
  have z29 : ∀ f, h29.fi f h28.sz = 0 := fun f => by rw [e29, new_fi, if_pos rfl]
  have s29 : h29.sz = h28.sz + 1 := by rw [e29]; rfl
  have l29 : h29.lo = h28.lo := by rw [e29]; rfl
  have c29 : h29.rc = 4 ∧ h29.rs = 64 := by rw [e29, new_rc, new_rs, c28.1, c28.2]; exact ⟨rfl, rfl⟩
  refine ⟨1, 16, ⟨by rw [c29.1]; omega, by rw [c29.2]; omega⟩, ?_⟩
  refine pc_sbInit (h := h29.srm 1 16) k29 (by show h28.sz < h29.sz; omega) (by show h29.lo ≤ h29.sz; rw [l29, s29]; omega) (z29 2103) (Nat.le_refl _) (Nat.le_refl _) ?_
  intro h31 F31 S31 z31 _ _ h32 e32
  have c32 : h32.c = h31.c := by rw [e32]; rfl
  have F32 : Fr (WS0 h28.sz) h29.c h32.c := by rw [c32]; exact F31
  have F2832 : Fr W0 h28.c h32.c := F29.trans' F32 (fun f a ha hh => by have h9 : a < h28.sz := ha; have := hh.2; omega)
  have F32' : Fr (WRd q) h.c h32.c := F28.trans' F2832 (fun f a _ hh => hh.elim)
  have fi32 : ∀ f, h32.fi f q = h28.fi f q := fun f => F2832.fi f q (by show q < h28.sz; omega) (fun hh => hh)
  have L0 : RdL h h32 q o jn tpa h28.sz h29.sz tp n fr 0 (dgt tp n fr) := by
    refine ⟨F32', R.go F32', qlt, sz28, by omega, ?_, ?_, by rw [fi32]; exact g1, by rw [fi32]; exact g2, by rw [fi32]; exact g7, ?_, ?_, ?_⟩
    · rw [c32]; exact S31
    · show h32.c.fi 2102 h28.sz = 0
      rw [F32.fi 2102 h28.sz (by show h28.sz < h29.sz; omega) (by unfold WS0; omega)]; exact z29 2102
    · rw [fi32, g6]
      cases dgt tp n fr <;> rfl
    · rw [e32]; show h29.rc - 1 = 3; rw [c29.1]
    · rw [e32]; show h29.rs - 16 = 48; rw [c29.2]
  have fin : ∀ V, RdE h V q o jn tpa h28.sz h29.sz tp n fr → rdF q h28.sz (if ltr tp n fr then 1 else 0) V Q := fun V E => rd_fin R eSn E hQ rfl
  clear F2832 F32 F31 S31 z31 e32 c32 fi32 e29
  generalize h28.sz = s at *
  generalize h29.sz = v at *
  by_cases hd : dgt tp n fr = true
  · -- a number
    have hl0 : ¬ ltr tp n fr = true := fun hh => by
      have a1 := (ltr_iff.1 hh).2.1
      have a2 := (dgt_iff.1 hd).2.2
      omega
    have et : (tokA tp n fr).to = eD tp n fr := by unfold tokA; rw [if_pos (dgt_iff.1 hd).1, if_neg hl0, if_pos hd]; rfl
    have hD0 := eD_ok (tp := tp) (n := n) fr
    have eDn := (eD_gt hd).2
    rw [hd] at L0
    refine xlp_cnt (eD tp n fr - fr) (fun k _ V => RdL h V q o jn tpa s v tp n fr k true) L0 ?_
    intro k _ V K2 hk Y hK2
    refine ⟨nn_of rfl Y.R.k, ?_⟩
    refine ⟨fun _ W => RdE h W q o jn tpa s v tp n fr, brF (by rw [Y.f7]; decide) ?_, fun _ W E => fin W E⟩
    rw [Y.f2]
    refine px_isAt (h := V.srm 0 0) (lo := 48) (hi := 57) Y.R (by omega) (by decide) (by decide) ?_
    rw [inB_dgt]
    intro h100 e100
    have e100' : h100 = V := by rw [e100]; rfl
    rw [e100']
    have hle := hD0.1
    by_cases ek : k = eD tp n fr - fr
    · have e9 : fr + k = eD tp n fr := by omega
      rw [e9, hD0.2.2]
      exact brT rfl (.inl ⟨k, by rw [hd]; exact Y, by rw [et]; exact e9⟩)
    · have hdk := hD0.2.1 (fr + k) (by omega) (by omega)
      rw [hdk]
      refine brF (by decide) ⟨nn_of rfl Y.R.k, ?_⟩
      have hi := dgt_iff.1 hdk
      exact RdL.step Y hi.1 (by omega) (fun _ => hi.2) (fun T hT => hK2 () T (by omega) hT)
  have hd' : dgt tp n fr = false := by simpa using hd
  by_cases hl : ltr tp n fr = true
  · -- a word
    have et : (tokA tp n fr).to = eL tp n fr := by unfold tokA; rw [if_pos (ltr_iff.1 hl).1, if_pos hl]; rfl
    have hL0 := eL_ok (tp := tp) (n := n) fr
    have eLn := (eL_gt hl).2
    rw [hd'] at L0
    refine xlp_cnt (eL tp n fr - fr) (fun k _ V => RdL h V q o jn tpa s v tp n fr k false) L0 ?_
    intro k _ V K2 hk Y hK2
    refine ⟨nn_of rfl Y.R.k, ?_⟩
    refine ⟨fun _ W => RdE h W q o jn tpa s v tp n fr, brT (by rw [Y.f7]; rfl) (brF (by rw [if_pos hl]; decide) ?_), fun _ W E => fin W E⟩
    rw [Y.f2]
    refine px_isAt (h := V.srm 0 0) (lo := 97) (hi := 122) Y.R (by omega) (by decide) (by decide) ?_
    rw [inB_ltr]
    intro h71 e71
    have e71' : h71 = V := by rw [e71]; rfl
    rw [e71']
    have hle := hL0.1
    by_cases ek : k = eL tp n fr - fr
    · have e9 : fr + k = eL tp n fr := by omega
      rw [e9, hL0.2.2]
      exact brT rfl (.inl ⟨k, by rw [hd']; exact Y, by rw [et]; exact e9⟩)
    · have hlk := hL0.2.1 (fr + k) (by omega) (by omega)
      rw [hlk]
      refine brF (by decide) ⟨nn_of rfl Y.R.k, ?_⟩
      have hi := ltr_iff.1 hlk
      exact RdL.step Y hi.1 (by omega) (fun hh => absurd hh (by simp)) (fun T hT => hK2 () T (by omega) hT)
  rw [hd'] at L0
  by_cases he : n ≤ fr
  · -- the end
    have et : (tokA tp n fr).to = fr := by unfold tokA; rw [if_neg (by omega)]; rfl
    refine xlp_cnt 0 (fun _ _ V => RdL h V q o jn tpa s v tp n fr 0 false) L0 ?_
    intro _ _ V K2 _ Y _
    refine ⟨nn_of rfl Y.R.k, ?_⟩
    refine ⟨fun _ W => RdE h W q o jn tpa s v tp n fr, brT (by rw [Y.f7]; rfl) (brT (by rw [if_neg hl]) (brT (by rw [Y.f2, Y.f1]; rfl) (brT (by rw [Y.f2, show V.fi 300 q = I n from Y.R.s]; exact (I_le (by omega) (by omega)).2 he) (.inl ⟨0, by rw [hd']; exact Y, by rw [et]; rfl⟩)))), fun _ W E => fin W E⟩
  · -- a sign
    have et : (tokA tp n fr).to = fr + 1 := by unfold tokA; rw [if_pos (by omega), if_neg hl, if_neg hd]; rfl
    refine xlp_cnt 1 (fun k _ V => (k = 0 ∧ RdL h V q o jn tpa s v tp n fr 0 false) ∨ (k = 1 ∧ RdE h V q o jn tpa s v tp n fr ∧ nn V (some q) 3 ∧ V.fi 301 q = I fr ∧ V.fi 302 q = I (fr + 1) ∧ V.fi 307 q = 0)) (.inl ⟨rfl, L0⟩) ?_
    intro k _ V K2 _ hh hK2
    rcases hh with ⟨k0, Y⟩ | ⟨_, E, n3, v1, v2, v7⟩
    · subst k0
      refine ⟨nn_of rfl Y.R.k, ?_⟩
      refine ⟨fun _ W => RdE h W q o jn tpa s v tp n fr, brT (by rw [Y.f7]; rfl) (brT (by rw [if_neg hl]) (brT (by rw [Y.f2, Y.f1]; rfl) (brF (by rw [Y.f2, show V.fi 300 q = I n from Y.R.s]; exact fun hh => he ((I_le (by omega) (by omega)).1 hh)) ?_))), fun _ W E => fin W E⟩
      by_cases hb : tp fr < 128
      · refine RdL.step Y (by omega) hb (fun hh => absurd hh (by simp)) (fun T hT => hK2 () T (by omega) (.inr ⟨rfl, .inl ⟨1, by rw [hd']; exact hT, by rw [et]⟩, nn_of rfl hT.R.k, hT.f1, hT.f2, hT.f7⟩))
      · -- a wide one
        have hy := R.y fr
        have S0 : SbR V.c s v [] := Y.S
        have Vsz : h.sz ≤ V.sz := Y.F.sz
        have Vlo : V.lo ≤ V.sz := by
          have h1 : V.c.lo = h.c.lo := by unfold HC.lo; rw [Y.F.bs]
          have h3 : V.lo = h.lo := h1
          omega
        have sq : s ≠ q := by have := Y.s1; omega
        show rdB q s V K2
        unfold rdB
        have ed : V.fi 302 q - V.fi 301 q = 0 := by rw [Y.f2, Y.f1]; exact Int32.sub_self _
        rw [ed]
        refine ⟨fun _ T => Fr (WRd q) h.c T.c ∧ RdR T.c q o jn tpa tp n ∧ (∃ v', SuR T.c s v') ∧ T.fi 301 q = I fr ∧ T.fi 302 q = I fr ∧ T.fi 307 q = 0 ∧ T.fi 306 q = 0 ∧ T.rc = 2 ∧ T.rs = 16, brF (by decide) ?_, ?_⟩
        · rw [show V.fr 313 q = some o from Y.R.u, adr_some, show V.fr 101 o = some tpa from Y.R.B.t1, Y.f2]
          refine ⟨Y.R.B.nn, ix_of rfl (show V.kd tpa = (41, 1000) from Y.R.B.t2) (by omega) (by omega), nn_of rfl Y.S.k, 1, 32, ⟨by rw [Y.c1]; omega, by rw [Y.c2]; omega⟩, ?_⟩
          rw [adr_some, I_ni (by omega), show V.ai tpa (fr + 0) = sB (tp fr) from Y.R.t fr (by omega)]
          refine pc_appendHi (h := V.srm 1 32) S0 Y.ml Vlo (ji2c_hi (by omega) hy) (Nat.le_refl _) (Nat.le_refl _) ?_
          intro T FT ST _ _ _ T2 e2
          have c2 : T2.c = T.c := by rw [e2]; rfl
          have FT' : Fr (WSu s) V.c T2.c := by rw [c2]; exact FT
          have FF : Fr (WRd q) h.c T2.c := Y.F.trans' FT' (fun f a ha hh => by have h9 : a < h.sz := ha; have := hh.2; have := Y.s1; omega)
          have fi2 : ∀ f, T2.fi f q = V.fi f q := fun f => FT'.fi f q Y.R.l (fun hh => sq hh.2.symm)
          refine ⟨FF, R.go FF, ⟨V.sz, by rw [c2]; exact ST⟩, by rw [fi2]; exact Y.f1, by rw [fi2]; exact Y.f2, by rw [fi2]; exact Y.f7, by rw [fi2]; exact Y.f6, ?_, ?_⟩
          · rw [e2]; show V.rc - 1 = 2; rw [Y.c1]
          · rw [e2]; show V.rs - 32 = 16; rw [Y.c2]
        · intro _ T hh
          obtain ⟨FT, RT, ⟨v', ST⟩, t1, t2, t7, t6, tc, ts⟩ := hh
          refine ⟨nn_of rfl RT.k, ?_⟩
          refine ⟨fun _ T' => T' = T, brT t7 rfl, ?_⟩
          intro _ T' hT'
          rw [hT']
          refine ⟨nn_of rfl RT.k, ?_⟩
          rw [t2, show I fr + 1 = I (fr + 1) from I_add _ 1]
          intro V2 e2
          have F2 : Fr (WRd q) T.c V2.c := by rw [e2]; exact (Fr.refl _).sfi _ (fun _ => ⟨rfl, by simp⟩)
          have g : ∀ f, f ≠ 302 → V2.fi f q = T.fi f q := fun f hf => by rw [e2]; exact sfi_ne T q _ q hf
          have R2 := RT.go F2
          refine hK2 () V2 (by omega) (.inr ⟨rfl, .inr ⟨by omega, by omega, FT.trans F2, ⟨v', ST.keep F2 (fun hh => sq hh.1) (fun hh => sq hh.1) (fun hh => sq hh.1) (fun hh => sq hh.1) (fun hh => by have := hh.2; omega)⟩, Y.s1, by rw [g _ (by decide)]; exact t1, by rw [e2, sfi_same], by rw [g _ (by decide)]; exact t7, by rw [g _ (by decide)]; exact t6, by rw [e2]; exact tc, by rw [e2]; exact ts⟩, nn_of rfl R2.k, by rw [g _ (by decide)]; exact t1, by rw [e2, sfi_same], by rw [g _ (by decide)]; exact t7⟩)
    · refine ⟨n3, ?_⟩
      refine ⟨fun _ W => RdE h W q o jn tpa s v tp n fr, brT v7 (brT (by rw [if_neg hl]) (brF (by rw [v2, v1]; exact fun hh => by have := (I_eq (by omega) (by omega)).1 hh; omega) E)), fun _ W E => fin W E⟩
end
