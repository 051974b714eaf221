/-! plain: kb -/
set_option maxRecDepth 100000
section
variable {h0 h : AH} {q o jn tpa s v : Nat} {tp : Nat → Nat} {n fr k p : Nat} {num : Bool}

/-- all bytes of a token are read. -/
def RdE (h0 U : AH) (q o jn tpa s v : Nat) (tp : Nat → Nat) (n fr : Nat) : Prop :=
  (∃ k, RdL h0 U q o jn tpa s v tp n fr k (dgt tp n fr) ∧ fr + k = (tokA tp n fr).to) ∨
  (128 ≤ tp fr ∧ fr < n ∧ Fr (WRd q) h0.c U.c ∧ (∃ v', SuR U.c s v') ∧ h0.sz ≤ s ∧ U.fi 301 q = I fr ∧ U.fi 302 q = I (fr + 1) ∧ U.fi 307 q = 0 ∧ U.fi 306 q = 0 ∧ U.rc = 2 ∧ U.rs = 16)

theorem tokA_nu (h : dgt tp n fr = true) : (tokA tp n fr).nu = nmv tp fr (min 4 ((tokA tp n fr).to - fr)) := by
  have hl0 : ¬ ltr tp n fr = true := fun hh => by
    have a1 := (ltr_iff.1 hh).2.1
    have a2 := (dgt_iff.1 h).2.2
    omega
  unfold tokA
  rw [if_pos (dgt_iff.1 h).1, if_neg hl0, if_pos h]
  rfl
theorem tokA_len (hk : (tokA tp n fr).kd ≠ 1) : (tokA tp n fr).to - fr ≤ 8 := by
  unfold tokA at *
  by_cases h1 : fr < n
  · rw [if_pos h1] at hk ⊢
    by_cases h2 : ltr tp n fr = true
    · rw [if_pos h2] at hk ⊢
      have hk' : (if 8 < eL tp n fr - fr then 1 else 2) ≠ 1 := hk
      show eL tp n fr - fr ≤ 8
      by_cases h3 : 8 < eL tp n fr - fr
      · rw [if_pos h3] at hk'; exact absurd rfl hk'
      · omega
    · rw [if_neg h2] at hk ⊢
      by_cases h3 : dgt tp n fr = true
      · rw [if_pos h3] at hk ⊢
        have hk' : (if 4 < eD tp n fr - fr then 1 else 3) ≠ 1 := hk
        show eD tp n fr - fr ≤ 8
        by_cases h4 : 4 < eD tp n fr - fr
        · rw [if_pos h4] at hk'; exact absurd rfl hk'
        · omega
      · rw [if_neg h3]
        show fr + 1 - fr ≤ 8
        omega
  · rw [if_neg h1]
    show fr - fr ≤ 8
    omega

theorem rd_fin {U : AH} (R : RdR h.c q o jn tpa tp n) (hfn : fr ≤ n) (E : RdE h U q o jn tpa s v tp n fr) {Q : AH → Prop} (hQ : ∀ h', Fr (WRd q) h.c h'.c → CkR h'.c q tp n (tokA tp n fr) → Q h') {r24 : Int32} (hr : r24 = if ltr tp n fr then 1 else 0) : rdF q s r24 U Q := by
  have hm := R.m
  have qlt : q < h.sz := R.l
  have lob : h.lo ≤ q := R.b
  have W5 : ∀ (T : AH) (x : Option Nat), Fr (WRd q) T.c (T.sfr 305 q x).c := fun T x => (Fr.refl _).sfr _ (fun _ => ⟨rfl, by simp⟩)
  unfold rdF
  rcases E with ⟨k, Y, ek⟩ | ⟨b1, b2, F, ⟨v', S⟩, s1, f1, f2, f7, f6, c1, c2⟩
  · have Ulo : U.lo ≤ U.sz := by
      have h1 : U.c.lo = h.c.lo := by unfold HC.lo; rw [Y.F.bs]
      have h2 := Y.F.sz
      have h3 : U.lo = h.lo := h1
      have h4 : h.sz ≤ U.sz := h2
      omega
    have Usz : h.sz ≤ U.sz := Y.F.sz
    have bl : (bys tp fr (min k 8)).length ≤ 8 := by rw [bys_len]; omega
    refine ⟨nn_of rfl Y.S.k, 2, 12, ⟨by rw [Y.c1]; omega, by rw [Y.c2]; omega⟩, ?_⟩
    refine pc_toString (h := U.srm 2 12) Y.S Ulo (Nat.le_refl _) (by show 4 + _ ≤ 12; omega) ?_
    intro T F' S' H' z1 _ _ T2 e2
    have c2 : T2.c = T.c := by rw [e2]; rfl
    have FU : Fr W0 U.c T2.c := by rw [c2]; exact F'
    have F2 : Fr (WRd q) h.c T2.c := Y.F.trans' FU (fun f a _ hh => hh.elim)
    have R2 := R.go F2
    refine ⟨nn_of rfl R2.k, ?_⟩
    intro T3 e3
    have F3 : Fr (WRd q) T2.c T3.c := by rw [e3]; exact W5 T2 _
    have fi3 : ∀ f, T3.fi f q = U.fi f q := fun f => by
      rw [e3]; show T2.fi f q = _
      exact FU.fi f q (Nat.lt_of_lt_of_le qlt Usz) (fun hh => hh)
    have wq : U.sz ≠ q := by omega
    refine rd_last (wa := U.sz) R (F2.trans F3) rfl hfn (by rw [fi3]; exact Y.f1) (by rw [fi3, Y.f2, ek]) (by rw [fi3]; exact Y.f7) (fun hd => ?_) (by rw [e3, sfr_same]; rfl) (fun hk => ?_) hQ hr
    · rw [fi3, Y.f6, if_pos hd, tokA_nu hd]
      congr 2
      omega
    · have l8 := tokA_len hk
      have tl := (tokA_to (tp := tp) (n := n) fr).1
      have ew : wrd tp (tokA tp n fr) = bys tp fr (min k 8) := by
        rw [wrd_bys, tokA_fr]
        congr 1
        omega
      rw [ew]
      refine ⟨U.sz + 1, ?_, ?_, Usz⟩
      · have : StR T2.c U.sz (U.sz + 1) (bys tp fr (min k 8)) := by rw [c2]; exact S'
        exact this.keep F3 (fun hh => wq hh.1) (fun hh => wq hh.1) (fun hh => by have := hh.2; omega)
      · have a1 : HsR T2.c U.sz (bys tp fr (min k 8)) := by rw [c2]; exact H'
        have a2 : StR T2.c U.sz (U.sz + 1) (bys tp fr (min k 8)) := by rw [c2]; exact S'
        exact a1.keep F3 a2.l (fun hh => wq hh.1) (fun hh => wq hh.1)
  · have Ulo : U.lo ≤ U.sz := by
      have h1 : U.c.lo = h.c.lo := by unfold HC.lo; rw [F.bs]
      have h2 := F.sz
      have h3 : U.lo = h.lo := h1
      have h4 : h.sz ≤ U.sz := h2
      omega
    have Usz : h.sz ≤ U.sz := F.sz
    refine ⟨nn_of rfl S.k, 2, 6, ⟨by rw [c1]; omega, by rw [c2]; omega⟩, ?_⟩
    refine pc_toStringHi (h := U.srm 2 6) S Ulo (Nat.le_refl _) (Nat.le_refl _) ?_
    intro T F' _ z1 _ _ T2 e2
    have c2 : T2.c = T.c := by rw [e2]; rfl
    have FU : Fr W0 U.c T2.c := by rw [c2]; exact F'
    have F2 : Fr (WRd q) h.c T2.c := F.trans' FU (fun f a _ hh => hh.elim)
    have R2 := R.go F2
    refine ⟨nn_of rfl R2.k, ?_⟩
    intro T3 e3
    have F3 : Fr (WRd q) T2.c T3.c := by rw [e3]; exact W5 T2 _
    have fi3 : ∀ f, T3.fi f q = U.fi f q := fun f => by
      rw [e3]; show T2.fi f q = _
      exact FU.fi f q (Nat.lt_of_lt_of_le qlt Usz) (fun hh => hh)
    have hd0 : ¬ dgt tp n fr = true := fun hh => by have := (dgt_iff.1 hh).2.2; omega
    have hl0 : ¬ ltr tp n fr = true := fun hh => by have := (ltr_iff.1 hh).2.2; omega
    have et : (tokA tp n fr).to = fr + 1 := by unfold tokA; rw [if_pos b2, if_neg hl0, if_neg hd0]; rfl
    have ek : (tokA tp n fr).kd = 1 := by
      have hs : ¬ sgn (tp fr) = true := fun hh => by
        have := sgn_mem.1 hh
        have h9 : ∀ x, x ∈ ksb 1 → x < 128 := by decide
        have := h9 _ this
        omega
      unfold tokA; rw [if_pos b2, if_neg hl0, if_neg hd0, if_neg hs]; rfl
    refine rd_last (wa := U.sz) R (F2.trans F3) rfl hfn (by rw [fi3]; exact f1) (by rw [fi3, f2, et]) (by rw [fi3, f7, if_neg hd0]) (fun hd => absurd hd hd0) (by rw [e3, sfr_same]; rfl) (fun hk => absurd ek hk) hQ hr
end
