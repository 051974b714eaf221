/-! plain: ka -/
set_option maxRecDepth 100000
section
variable {h0 h : AH} {q o jn tpa s v : Nat} {tp : Nat → Nat} {n fr k : Nat} {num : Bool}

/-- the token there, as the component knows it. -/
def CkR (c : HC) (q : Nat) (tp : Nat → Nat) (n : Nat) (t : Tk) : Prop :=
  (c.fi 301 q = I t.fr) ∧
  (c.fi 302 q = I t.to) ∧
  (c.fi 307 q = if dgt tp n t.fr then 1 else 0) ∧
  (c.fi 308 q = if t.kd = 1 then 1 else 0) ∧
  (dgt tp n t.fr = true → c.fi 306 q = I t.nu) ∧
  (t.kd ≠ 1 → ∃ wa wv, c.fr 305 q = some wa ∧ StR c wa wv (wrd tp t) ∧ HsR c wa (wrd tp t)) ∧
  (∃ fr, t = tokA tp n fr) ∧
  (t.to ≤ n)
theorem CkR.f1 {c : HC} {q : Nat} {tp : Nat → Nat} {n : Nat} {t : Tk} (h9 : CkR c q tp n t) : c.fi 301 q = I t.fr := h9.1
theorem CkR.f2 {c : HC} {q : Nat} {tp : Nat → Nat} {n : Nat} {t : Tk} (h9 : CkR c q tp n t) : c.fi 302 q = I t.to := h9.2.1
theorem CkR.f7 {c : HC} {q : Nat} {tp : Nat → Nat} {n : Nat} {t : Tk} (h9 : CkR c q tp n t) : c.fi 307 q = if dgt tp n t.fr then 1 else 0 := h9.2.2.1
theorem CkR.f8 {c : HC} {q : Nat} {tp : Nat → Nat} {n : Nat} {t : Tk} (h9 : CkR c q tp n t) : c.fi 308 q = if t.kd = 1 then 1 else 0 := h9.2.2.2.1
theorem CkR.f6 {c : HC} {q : Nat} {tp : Nat → Nat} {n : Nat} {t : Tk} (h9 : CkR c q tp n t) : dgt tp n t.fr = true → c.fi 306 q = I t.nu := h9.2.2.2.2.1
theorem CkR.w0 {c : HC} {q : Nat} {tp : Nat → Nat} {n : Nat} {t : Tk} (h9 : CkR c q tp n t) : t.kd ≠ 1 → ∃ wa wv, c.fr 305 q = some wa ∧ StR c wa wv (wrd tp t) ∧ HsR c wa (wrd tp t) := h9.2.2.2.2.2.1
theorem CkR.kk {c : HC} {q : Nat} {tp : Nat → Nat} {n : Nat} {t : Tk} (h9 : CkR c q tp n t) : ∃ fr, t = tokA tp n fr := h9.2.2.2.2.2.2.1
theorem CkR.l2 {c : HC} {q : Nat} {tp : Nat → Nat} {n : Nat} {t : Tk} (h9 : CkR c q tp n t) : t.to ≤ n := h9.2.2.2.2.2.2.2

/-- behind a token's bytes. -/
def rdF (o s : Nat) (r24 : Int32) (T128 : AH) (Q : AH → Prop) : Prop :=
  nn T128 (some s) 21 ∧
  cl T128 fun mc133 ms134 => wp_J1_toString s (T128.srm mc133 ms134) fun r130 h131 => ∀ h132, h132 = h131.srm (T128.rc - mc133) (T128.rs - ms134) →
  nn h132 (some o) 3 ∧
  ∀ h137, h137 = h132.sfr 305 o r130 →
  (((h137.fi 307 o) = 0 →
  ((r24 = 0 →
  (((h137.fi 300 o) ≤ (h137.fi 301 o) →
  ∀ h141, h141 = h137.sfi 308 o (0) →
  Q h141) ∧ (¬ (h137.fi 300 o) ≤ (h137.fi 301 o) →
  nn h137 (h137.fr 313 o) 1 ∧
  ix h137 (h137.fr 101 (adr (h137.fr 313 o))) 41 (h137.fi 301 o) ∧
  nn h137 (sref (h137.cs 1)) 22 ∧
  cl h137 fun mc147 ms148 => wp_J2_indexOf (adr (sref (h137.cs 1))) (h137.ai (adr (h137.fr 101 (adr (h137.fr 313 o)))) (ni (h137.fi 301 o))) (h137.srm mc147 ms148) fun r144 h145 => ∀ h146, h146 = h145.srm (h137.rc - mc147) (h137.rs - ms148) →
  ∀ m150 : Int32, m150 = (if 0 ≤ r144 then 0 else 1) →
  nn h146 (some o) 3 ∧
  bz m150 ∧
  ∀ h153, h153 = h146.sfi 308 o m150 →
  Q h153))) ∧ (¬ r24 = 0 →
  ∀ m155 : Int32, m155 = (if ((h137.fi 302 o) - (h137.fi 301 o)) ≤ 8 then 0 else 1) →
  bz m155 ∧
  ∀ h157, h157 = h137.sfi 308 o m155 →
  Q h157))) ∧ (¬ (h137.fi 307 o) = 0 →
  ∀ m159 : Int32, m159 = (if ((h137.fi 302 o) - (h137.fi 301 o)) ≤ 4 then 0 else 1) →
  bz m159 ∧
  ∀ h161, h161 = h137.sfi 308 o m159 →
  Q h161))

/-- with the word there: whether it is bad. -/
theorem rd_last {T : AH} {wa : Nat} {t : Tk} (R : RdR h.c q o jn tpa tp n) (F : Fr (WRd q) h.c T.c) (ht : t = tokA tp n fr) (hfn : fr ≤ n) (f1 : T.fi 301 q = I fr) (f2 : T.fi 302 q = I t.to) (f7 : T.fi 307 q = if dgt tp n fr then 1 else 0) (f6 : dgt tp n fr = true → T.fi 306 q = I t.nu) (f5 : T.fr 305 q = some wa)
    (hw : t.kd ≠ 1 → ∃ wv, StR T.c wa wv (wrd tp t) ∧ HsR T.c wa (wrd tp t) ∧ h.sz ≤ wa) {Q : AH → Prop} (hQ : ∀ h', Fr (WRd q) h.c h'.c → CkR h'.c q tp n t → Q h') {r24 : Int32} (hr : r24 = if ltr tp n fr then 1 else 0) :
    (((T.fi 307 q) = 0 →
    ((r24 = 0 →
    (((T.fi 300 q) ≤ (T.fi 301 q) →
    ∀ h141, h141 = T.sfi 308 q (0) →
    Q h141) ∧ (¬ (T.fi 300 q) ≤ (T.fi 301 q) →
    nn T (T.fr 313 q) 1 ∧
    ix T (T.fr 101 (adr (T.fr 313 q))) 41 (T.fi 301 q) ∧
    nn T (sref (T.cs 1)) 22 ∧
    cl T fun mc147 ms148 => wp_J2_indexOf (adr (sref (T.cs 1))) (T.ai (adr (T.fr 101 (adr (T.fr 313 q)))) (ni (T.fi 301 q))) (T.srm mc147 ms148) fun r144 h145 => ∀ h146, h146 = h145.srm (T.rc - mc147) (T.rs - ms148) →
    ∀ m150 : Int32, m150 = (if 0 ≤ r144 then 0 else 1) →
    nn h146 (some q) 3 ∧
    bz m150 ∧
    ∀ h153, h153 = h146.sfi 308 q m150 →
    Q h153))) ∧ (¬ r24 = 0 →
    ∀ m155 : Int32, m155 = (if ((T.fi 302 q) - (T.fi 301 q)) ≤ 8 then 0 else 1) →
    bz m155 ∧
    ∀ h157, h157 = T.sfi 308 q m155 →
    Q h157))) ∧ (¬ (T.fi 307 q) = 0 →
    ∀ m159 : Int32, m159 = (if ((T.fi 302 q) - (T.fi 301 q)) ≤ 4 then 0 else 1) →
    bz m159 ∧
    ∀ h161, h161 = T.sfi 308 q m159 →
    Q h161)) := by
  have hm := R.m
  have RT := R.go F
  have qlt : q < T.sz := RT.l
  have tfr : t.fr = fr := by rw [ht]; exact tokA_fr fr
  have tto := tokA_to (tp := tp) (n := n) fr
  rw [← ht] at tto
  have to1 : fr ≤ t.to := tto.1
  have to2 : t.to ≤ n := by
    by_cases hl : fr < n
    · exact (tto.2 hl).2
    · have e : t.to = fr := by rw [ht]; unfold tokA; rw [if_neg hl]; rfl
      rw [e]; exact hfn
  have sub : T.fi 302 q - T.fi 301 q = I (t.to - fr) := by rw [f2, f1, I_sub to1]
  -- the last write
  have out : ∀ (b : Int32) (V : AH), b = (if t.kd = 1 then 1 else 0) → V.c = (T.sfi 308 q b).c → Q V := by
    intro b V hb hV
    have FV : Fr (WRd q) T.c V.c := by rw [hV]; exact (Fr.refl _).sfi _ (fun _ => ⟨rfl, by simp⟩)
    have g : ∀ f, f ≠ 308 → V.c.fi f q = T.fi f q := fun f hf => by rw [hV]; exact sfi_ne T q _ q hf
    refine hQ V (F.trans FV) ⟨by rw [g _ (by decide), tfr]; exact f1, by rw [g _ (by decide)]; exact f2, by rw [g _ (by decide), tfr]; exact f7, ?_, fun hd => by rw [g _ (by decide)]; rw [tfr] at hd; exact f6 hd, fun hk => ?_, ⟨fr, ht⟩, to2⟩
    · rw [hV]; show (T.sfi 308 q b).fi 308 q = _; rw [sfi_same, hb]
    · obtain ⟨wv, w1, w2, w3⟩ := hw hk
      have wq : wa ≠ q := fun e => by
        have := R.l
        have h9 : q < h.sz := this
        omega
      refine ⟨wa, wv, ?_, w1.keep FV (fun hh => wq hh.1) (fun hh => wq hh.1) (fun hh => by have := hh.2; omega), w2.keep FV w1.l (fun hh => wq hh.1) (fun hh => wq hh.1)⟩
      rw [hV]; exact f5
  have bzb : ∀ (P : Prop) [Decidable P], bz (if P then (0 : Int32) else 1) := fun P _ => by
    by_cases hp : P
    · rw [if_pos hp]; exact .inl rfl
    · rw [if_neg hp]; exact .inr rfl
  rw [f7, hr, sub]
  by_cases hd : dgt tp n fr = true
  · rw [if_pos hd]
    refine brF (by decide) ?_
    intro m e
    rw [e]
    refine ⟨bzb _, fun V hV => out _ V ?_ (congrArg AH.c hV)⟩
    have hl0 : ¬ ltr tp n fr = true := fun hh => by
      have a1 := (ltr_iff.1 hh).2.1
      have a2 := (dgt_iff.1 hd).2.2
      omega
    have ek : t.kd = if 4 < eD tp n fr - fr then 1 else 3 := by
      rw [ht]; unfold tokA
      rw [if_pos (dgt_iff.1 hd).1, if_neg hl0, if_pos hd]; rfl
    have et : t.to = eD tp n fr := by
      rw [ht]; unfold tokA
      rw [if_pos (dgt_iff.1 hd).1, if_neg hl0, if_pos hd]; rfl
    have e2 : (I (t.to - fr) ≤ (4 : Int32)) ↔ t.to - fr ≤ 4 := le_L 4 (by decide) (by omega)
    by_cases h4 : t.to - fr ≤ 4
    · rw [if_pos (e2.2 h4), ek, ← et, if_neg (show ¬ 4 < t.to - fr by omega)]; rfl
    · rw [if_neg (fun hh => h4 (e2.1 hh)), ek, ← et, if_pos (show 4 < t.to - fr by omega)]; rfl
  rw [if_neg hd]
  refine brT rfl ?_
  by_cases hl : ltr tp n fr = true
  · rw [if_pos hl]
    refine brF (by decide) ?_
    intro m e
    rw [e]
    refine ⟨bzb _, fun V hV => out _ V ?_ (congrArg AH.c hV)⟩
    have ek : t.kd = if 8 < eL tp n fr - fr then 1 else 2 := by
      rw [ht]; unfold tokA
      rw [if_pos (ltr_iff.1 hl).1, if_pos hl]; rfl
    have et : t.to = eL tp n fr := by
      rw [ht]; unfold tokA
      rw [if_pos (ltr_iff.1 hl).1, if_pos hl]; rfl
    have e2 : (I (t.to - fr) ≤ (8 : Int32)) ↔ t.to - fr ≤ 8 := le_L 8 (by decide) (by omega)
    by_cases h4 : t.to - fr ≤ 8
    · rw [if_pos (e2.2 h4), ek, ← et, if_neg (show ¬ 8 < t.to - fr by omega)]; rfl
    · rw [if_neg (fun hh => h4 (e2.1 hh)), ek, ← et, if_pos (show 8 < t.to - fr by omega)]; rfl
  rw [if_neg hl]
  refine brT rfl ?_
  rw [show T.fi 300 q = I n from RT.s, f1]
  by_cases he : n ≤ fr
  · refine brT ((I_le (by omega) (by omega)).2 he) ?_
    intro V hV
    refine out _ V ?_ (congrArg AH.c hV)
    have ek : t.kd = 0 := by rw [ht]; unfold tokA; rw [if_neg (by omega)]; rfl
    rw [ek]; rfl
  refine brF (fun hh => he ((I_le (by omega) (by omega)).1 hh)) ?_
  obtain ⟨ca, cv, k1, k2, k3, k4⟩ := RT.z 1 (by decide)
  rw [show T.fr 313 q = some o from RT.u, adr_some, show T.fr 101 o = some tpa from RT.B.t1, show sref (T.cs 1) = some ca from k1]
  refine ⟨RT.B.nn, ix_of rfl (show T.kd tpa = (41, 1000) from RT.B.t2) (by omega) (by omega), nn_of rfl k2.k, 0, 0, ⟨Nat.zero_le _, Nat.zero_le _⟩, ?_⟩
  rw [adr_some, adr_some, I_ni (by omega), show T.ai tpa fr = sB (tp fr) from RT.t fr (by omega)]
  refine pc_indexOf (h := T.srm 0 0) k2 (by decide) (R.y fr) ?_
  intro r hr2 h146 e146 m e
  rw [e]
  have c146 : h146.c = T.c := by rw [e146]; rfl
  refine ⟨nn_of rfl (by show (h146.c.kd q).1 = 3; rw [c146]; exact RT.k), bzb _, fun V hV => out (if 0 ≤ r then 0 else 1) V ?_ ?_⟩
  · have ek : t.kd = if sgn (tp fr) then 4 else 1 := by
      rw [ht]; unfold tokA
      rw [if_pos (by omega), if_neg hl, if_neg hd]; rfl
    rw [ek]
    by_cases hs : sgn (tp fr) = true
    · rw [if_pos hs, if_pos (hr2.2 (sgn_mem.1 hs))]; rfl
    · rw [if_neg hs, if_neg (fun hh => hs (sgn_mem.2 (hr2.1 hh)))]; rfl
  · rw [hV, e146]; rfl
end
