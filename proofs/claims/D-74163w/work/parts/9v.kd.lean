/-! plain: kd -/
set_option maxRecDepth 100000
section
variable {h : AH} {lo q o jn tpa : Nat} {tp : Nat → Nat} {n : Nat} {t : Tk}

/-- what reading of tokens writes. -/
def WG (lo q : Nat) : Nat → Nat → Prop := fun f a => lo ≤ a ∧ ((a = q ∧ (f = 301 ∨ f = 302 ∨ f = 305 ∨ f = 306 ∨ f = 307 ∨ f = 308)) ∨ f = 2202 ∨ f = 2203)
/-- a reader with its token. -/
def RdK (c : HC) (lo q o jn tpa : Nat) (tp : Nat → Nat) (n : Nat) (t : Tk) : Prop :=
  (RdR c q o jn tpa tp n) ∧
  (CkR c q tp n t) ∧
  (c.lo = lo)
theorem RdK.R {c : HC} {lo q o jn tpa : Nat} {tp : Nat → Nat} {n : Nat} {t : Tk} (h9 : RdK c lo q o jn tpa tp n t) : RdR c q o jn tpa tp n := h9.1
theorem RdK.T {c : HC} {lo q o jn tpa : Nat} {tp : Nat → Nat} {n : Nat} {t : Tk} (h9 : RdK c lo q o jn tpa tp n t) : CkR c q tp n t := h9.2.1
theorem RdK.L {c : HC} {lo q o jn tpa : Nat} {tp : Nat → Nat} {n : Nat} {t : Tk} (h9 : RdK c lo q o jn tpa tp n t) : c.lo = lo := h9.2.2
theorem CkR.with {c c' : HC} (T : CkR c q tp n t) (hf : ∀ f, 301 ≤ f → f ≤ 308 → f ≠ 303 → f ≠ 304 → c'.fi f q = c.fi f q) (hw : t.kd ≠ 1 → ∃ wa wv, c'.fr 305 q = some wa ∧ StR c' wa wv (wrd tp t) ∧ HsR c' wa (wrd tp t)) : CkR c' q tp n t :=
  ⟨by rw [hf 301 (by decide) (by decide) (by decide) (by decide)]; exact T.f1, by rw [hf 302 (by decide) (by decide) (by decide) (by decide)]; exact T.f2, by rw [hf 307 (by decide) (by decide) (by decide) (by decide)]; exact T.f7, by rw [hf 308 (by decide) (by decide) (by decide) (by decide)]; exact T.f8, fun hd => by rw [hf 306 (by decide) (by decide) (by decide) (by decide)]; exact T.f6 hd, hw, T.kk, T.l2⟩
/-- what may be written beside a reader. -/
def okW (c : HC) (q : Nat) (f a : Nat) : Prop := c.lo ≤ a ∧ ((a = q ∧ (f = 303 ∨ f = 304 ∨ f = 309 ∨ f = 310 ∨ f = 311)) ∨ (f ≠ 0 ∧ (f < 100 ∨ 400 ≤ f) ∧ (f < 2200 ∨ 2203 < f)) ∨ (f = 0 ∧ (c.kd a).1 ≠ 41 ∧ (c.kd a).1 ≠ 45))
theorem RdK.keep {W : Nat → Nat → Prop} {c c' : HC} (K : RdK c lo q o jn tpa tp n t) (F : Fr W c c') (hW : ∀ f a, W f a → okW c q f a) : RdK c' lo q o jn tpa tp n t := by
  have ql := K.R.l
  have nf : ∀ f, 300 ≤ f → f ≤ 313 → f ≠ 303 → f ≠ 304 → f ≠ 309 → f ≠ 310 → f ≠ 311 → ∀ a, ¬ W f a := by
    intro f h1 h2 h3 h4 h5 h6 h7 a hh
    have := (hW f a hh).2
    omega
  have n1 : ∀ a, ¬ W 100 a := fun a hh => by have := (hW _ a hh).2; omega
  have n2 : ∀ a, ¬ W 101 a := fun a hh => by have := (hW _ a hh).2; omega
  have ns : ∀ f a, 2200 ≤ f → f ≤ 2203 → ¬ W f a := fun f a h1 h2 hh => by have := (hW _ a hh).2; omega
  have n0 : ∀ a, (c.kd a).1 = 41 ∨ (c.kd a).1 = 45 → ¬ W 0 a := fun a hk hh => by have := (hW _ a hh).2; omega
  refine ⟨K.R.keep F (nf 300 (by decide) (by decide) (by decide) (by decide) (by decide) (by decide) (by decide) q) (nf 313 (by decide) (by decide) (by decide) (by decide) (by decide) (by decide) (by decide) q) (n1 _) (n2 _) (n0 _ (.inr (by rw [K.R.B.j2]))) (n0 _ (.inl (by rw [K.R.B.t2]))) (fun f a hh => (hW f a hh).1), K.T.with (fun f h1 h2 h3 h4 => F.fi f q ql (nf f (by omega) (by omega) h3 h4 (by omega) (by omega) (by omega) q)) (fun hk => ?_), ?_⟩
  · obtain ⟨wa, wv, e1, e2, e3⟩ := K.T.w0 hk
    refine ⟨wa, wv, by rw [F.fr 305 q ql (nf 305 (by decide) (by decide) (by decide) (by decide) (by decide) (by decide) (by decide) q)]; exact e1, e2.keep F (ns _ _ (by decide) (by decide)) (ns _ _ (by decide) (by decide)) (n0 _ (.inl (by rw [e2.vk]))), e3.keep F e2.l (ns _ _ (by decide) (by decide)) (ns _ _ (by decide) (by decide))⟩
  · have := K.L
    unfold HC.lo at *
    rw [F.bs]; exact this
theorem RdK.keep0 {c c' : HC} (K : RdK c lo q o jn tpa tp n t) (F : Fr W0 c c') : RdK c' lo q o jn tpa tp n t := K.keep F (fun _ _ hh => hh.elim)

/-- whether the token is just this word, or sign. -/
abbrev isB (tp : Nat → Nat) (n : Nat) (t : Tk) (w : List Nat) : Prop := t.kd ≠ 1 ∧ dgt tp n t.fr = false ∧ wrd tp t = w
theorem px_isG (K : RdK h.c lo q o jn tpa tp n t) {k : Nat} (hk : k < 24) {Q : Int32 → AH → Prop} (hQ : Q (if isB tp n t (ksb k) then 1 else 0) h) : wp_X2_is q (sref (h.cs k)) h Q := by
  obtain ⟨a, v, e1, e2, _, _⟩ := K.R.z k hk
  have e1' : sref (h.cs k) = some a := e1
  rw [e1']
  unfold wp_X2_is
  refine ⟨nn_of rfl K.R.k, ?_⟩
  have f8 : h.fi 308 q = if t.kd = 1 then 1 else 0 := K.T.f8
  have f7 : h.fi 307 q = if dgt tp n t.fr then 1 else 0 := K.T.f7
  rw [f8, f7]
  by_cases h1 : t.kd = 1
  · rw [if_pos h1]
    rw [if_neg (fun hh : isB tp n t (ksb k) => hh.1 h1)] at hQ
    exact brF (by decide) hQ
  rw [if_neg h1]
  refine brT rfl ?_
  by_cases hd : dgt tp n t.fr = true
  · rw [if_pos hd]
    rw [if_neg (fun hh : isB tp n t (ksb k) => by rw [hh.2.1] at hd; exact absurd hd (by decide))] at hQ
    exact brF (by decide) hQ
  have hd' : dgt tp n t.fr = false := by simpa using hd
  rw [if_neg hd]
  obtain ⟨wa, wv, w1, w2, w3⟩ := K.T.w0 h1
  have w1' : h.fr 305 q = some wa := w1
  rw [w1']
  refine brT rfl ⟨nn_of rfl w2.k, ?_⟩
  refine pc_equals (h := h.srm 0 0) w2 e2 ?_
  intro h7 e7
  have e7' : h7 = h := by rw [e7]; rfl
  rw [e7']
  intro m em
  by_cases hw : wrd tp t = ksb k
  · rw [if_pos hw, if_neg (by decide)] at em
    rw [if_pos (show isB tp n t (ksb k) from ⟨h1, hd', hw⟩)] at hQ
    rw [em]; exact ⟨.inr rfl, hQ⟩
  · rw [if_neg hw, if_pos rfl] at em
    rw [if_neg (fun hh : isB tp n t (ksb k) => hw hh.2.2)] at hQ
    rw [em]; exact ⟨.inl rfl, hQ⟩

theorem wrd_len (t : Tk) : (wrd tp t).length = t.to - t.fr := by unfold wrd; rw [List.length_map, List.length_range]
/-- what a token may be. -/
theorem tok_cases {fr : Nat} (ht : t = tokA tp n fr) : (n ≤ fr ∧ t = (fr, fr, 0, 0, 0)) ∨ (fr < n ∧ ltr tp n fr = true ∧ dgt tp n fr = false ∧ t = (fr, eL tp n fr, if 8 < eL tp n fr - fr then 1 else 2, 0, 0)) ∨
    (fr < n ∧ ltr tp n fr = false ∧ dgt tp n fr = true ∧ t = (fr, eD tp n fr, if 4 < eD tp n fr - fr then 1 else 3, nmv tp fr (min 4 (eD tp n fr - fr)), 0)) ∨ (fr < n ∧ ltr tp n fr = false ∧ dgt tp n fr = false ∧ t = (fr, fr + 1, if sgn (tp fr) then 4 else 1, 0, tp fr)) := by
  unfold tokA at ht
  by_cases h0 : fr < n
  · rw [if_pos h0] at ht
    by_cases hl : ltr tp n fr = true
    · rw [if_pos hl] at ht
      refine .inr (.inl ⟨h0, hl, ?_, ht⟩)
      cases hd : dgt tp n fr with
      | false => rfl
      | true =>
        have a1 := (ltr_iff.1 hl).2
        have a2 := (dgt_iff.1 hd).2
        omega
    · rw [if_neg hl] at ht
      have hl' : ltr tp n fr = false := by simpa using hl
      by_cases hd : dgt tp n fr = true
      · rw [if_pos hd] at ht
        exact .inr (.inr (.inl ⟨h0, hl', hd, ht⟩))
      · rw [if_neg hd] at ht
        exact .inr (.inr (.inr ⟨h0, hl', by simpa using hd, ht⟩))
  · rw [if_neg h0] at ht
    exact .inl ⟨by omega, ht⟩
theorem kw_len {k : Nat} (hk : k < 9) : 2 ≤ (kw k).length := by
  have key : ∀ k : Fin 9, 2 ≤ (kw k.1).length := by decide
  exact key ⟨k, hk⟩
theorem isB_w (hk : ∃ fr, t = tokA tp n fr) {k : Nat} (h9 : k < 9) : isB tp n t (kw k) ↔ isW tp t k = true := by
  obtain ⟨fr, ht⟩ := hk
  rw [isW_iff]
  have hl := kw_len h9
  constructor
  · rintro ⟨h1, h2, h3⟩
    refine ⟨?_, h3⟩
    have hn := wrd_len (tp := tp) t
    rw [h3] at hn
    rcases tok_cases ht with ⟨_, e⟩ | ⟨_, _, _, e⟩ | ⟨_, _, hd, e⟩ | ⟨_, _, _, e⟩
    · rw [e] at hn; have h9 : (kw k).length = fr - fr := hn; omega
    · rw [e] at h1 ⊢
      show (if 8 < eL tp n fr - fr then 1 else 2) = 2
      have h1' : (if 8 < eL tp n fr - fr then 1 else 2) ≠ 1 := h1
      by_cases hc : 8 < eL tp n fr - fr
      · rw [if_pos hc] at h1'; exact absurd rfl h1'
      · rw [if_neg hc]
    · rw [e] at h2; have h9 : dgt tp n fr = false := h2; rw [hd] at h9; exact absurd h9 (by decide)
    · rw [e] at hn; have h9 : (kw k).length = fr + 1 - fr := hn; omega
  · rintro ⟨h1, h2⟩
    refine ⟨by omega, ?_, h2⟩
    rcases tok_cases ht with ⟨_, e⟩ | ⟨_, _, hd, e⟩ | ⟨_, _, _, e⟩ | ⟨_, _, hd, e⟩
    · rw [e] at h1; exact absurd (show (0 : Nat) = 2 from h1) (by decide)
    · rw [e]; exact hd
    · rw [e] at h1
      have h9 : (if 4 < eD tp n fr - fr then 1 else 3) = 2 := h1
      split at h9 <;> omega
    · rw [e]; exact hd
theorem wrd_one {fr a b c : Nat} : wrd tp ((fr, fr + 1, a, b, c) : Tk) = [tp fr] := by
  show (List.range (fr + 1 - fr)).map (fun i => tp (fr + i)) = [tp fr]
  rw [show fr + 1 - fr = 1 by omega]
  rfl
theorem isB_s (hk : ∃ fr, t = tokA tp n fr) {c : Nat} (hc : sgn c = true) : isB tp n t [c] ↔ isSg t c = true := by
  obtain ⟨fr, ht⟩ := hk
  rw [isSg_iff]
  constructor
  · rintro ⟨h1, h2, h3⟩
    have hn := wrd_len (tp := tp) t
    rw [h3] at hn
    rcases tok_cases ht with ⟨_, e⟩ | ⟨_, hl, _, e⟩ | ⟨_, _, hd, e⟩ | ⟨_, _, _, e⟩
    · rw [e] at hn; have h9 : 1 = fr - fr := hn; omega
    · exfalso
      rw [e] at hn h3
      have h9 : 1 = eL tp n fr - fr := hn
      have e2 : wrd tp ((fr, eL tp n fr, if 8 < eL tp n fr - fr then 1 else 2, 0, 0) : Tk) = [tp fr] := by
        show (List.range (eL tp n fr - fr)).map (fun i => tp (fr + i)) = [tp fr]
        rw [← h9]; rfl
      rw [e2] at h3
      have e3 : tp fr = c := by simpa using h3
      have a1 := (ltr_iff.1 hl).2
      rw [e3] at a1
      have a2 := sgn_mem.1 hc
      have key : ∀ x, x ∈ ksb 1 → ¬ (97 ≤ x ∧ x ≤ 122) := by decide
      exact key c a2 a1
    · rw [e] at h2; have h9 : dgt tp n fr = false := h2; rw [hd] at h9; exact absurd h9 (by decide)
    · rw [e, wrd_one] at h3
      have e3 : tp fr = c := by simpa using h3
      rw [e, e3, hc]
      exact ⟨rfl, rfl⟩
  · rintro ⟨h1, h2⟩
    rcases tok_cases ht with ⟨_, e⟩ | ⟨_, _, _, e⟩ | ⟨_, _, _, e⟩ | ⟨_, _, hd, e⟩
    · rw [e] at h1; exact absurd (show (0 : Nat) = 4 from h1) (by decide)
    · rw [e] at h1
      have h9 : (if 8 < eL tp n fr - fr then 1 else 2) = 4 := h1
      split at h9 <;> omega
    · rw [e] at h1
      have h9 : (if 4 < eD tp n fr - fr then 1 else 3) = 4 := h1
      split at h9 <;> omega
    · refine ⟨by omega, by rw [e]; exact hd, ?_⟩
      rw [e] at h2 ⊢
      have h9 : tp fr = c := h2
      rw [wrd_one, h9]

theorem WG.ok {c : HC} {f a : Nat} (e : c.lo = lo) (hh : WG lo q f a) : c.lo ≤ a := by rw [e]; exact hh.1
theorem g_reads (K : RdK h.c lo q o jn tpa tp n t) (hc : 5 ≤ h.rc) (hs : 68 ≤ h.rs) {P : AH → Prop} (hP : ∀ h', Fr (WG lo q) h.c h'.c → RdK h'.c lo q o jn tpa tp n (nxt tp n t) → h'.rc = h.rc - 5 → h'.rs = h.rs - 68 → P h') :
    cl h fun mc ms => wp_X2_reads q (h.srm mc ms) fun h8 => ∀ h9, h9 = h8.srm (h.rc - mc) (h.rs - ms) → P h9 := by
  refine ⟨5, 68, ⟨hc, hs⟩, ?_⟩
  dsimp only
  refine px_reads (h := h.srm 5 68) K.R K.T.f2 K.T.l2 rfl rfl ?_
  intro h8 F T h9 e9
  have c9 : h9.c = h8.c := by rw [e9]; rfl
  have F9 : Fr (WRd q) h.c h9.c := by rw [c9]; exact F
  refine hP h9 (F9.mono (fun f a _ hh => ⟨by rw [← K.L, hh.1]; exact K.R.b, .inl hh⟩)) ⟨K.R.go F9, by rw [c9]; exact T, ?_⟩ (by rw [e9]; rfl) (by rw [e9]; rfl)
  have := K.L
  unfold HC.lo at *
  rw [F9.bs]; exact this

/-- a thrown one. -/
def ThR (c : HC) (x : Nat) (e : Fl) : Prop := (c.kd x).1 = 5 ∧ x < c.sz ∧ c.fi 506 x = I e.1 ∧ c.fi 507 x = I e.2
theorem px_wInit {x : Nat} {p0 p1 : Int32} (hk : (h.kd x).1 = 5) {Q : AH → Prop} (hQ : ∀ h', Fr (fun f a => a = x ∧ 500 ≤ f) h.c h'.c → h'.fi 506 x = p0 → h'.fi 507 x = p1 → h'.rc = h.rc → h'.rs = h.rs → Q h') : wp_X4_init x p0 p1 h Q := by
  unfold wp_X4_init wp_J14_init wp_J13_init_2
  refine ⟨nn_of rfl hk, ?_⟩
  intro h2 e2 h3 e3 h4 e4
  refine brT rfl ?_
  intro h6 e6 h7 e7 h8 e8
  refine brT rfl ?_
  intro h10 e10 h11 e11 h12 e12
  have F2 : Fr (fun f a => a = x ∧ 500 ≤ f) h.c h2.c := by rw [e2]; exact Fr.sfr (h := (h.srm 0 0).srm 0 0) (Fr.refl h.c) _ (fun _ => ⟨rfl, by decide⟩)
  have F3 : Fr (fun f a => a = x ∧ 500 ≤ f) h.c h3.c := by rw [e3]; exact F2.sfr _ (fun _ => ⟨rfl, by decide⟩)
  have F4 : Fr (fun f a => a = x ∧ 500 ≤ f) h.c h4.c := by rw [e4]; exact F3.sfr _ (fun _ => ⟨rfl, by decide⟩)
  have F6 : Fr (fun f a => a = x ∧ 500 ≤ f) h.c h6.c := by rw [e6]; exact F4.sfr _ (fun _ => ⟨rfl, by decide⟩)
  have F7 : Fr (fun f a => a = x ∧ 500 ≤ f) h.c h7.c := by rw [e7]; exact F6.sfr _ (fun _ => ⟨rfl, by decide⟩)
  have F8 : Fr (fun f a => a = x ∧ 500 ≤ f) h.c h8.c := by rw [e8]; exact F7.sfr _ (fun _ => ⟨rfl, by decide⟩)
  have F10 : Fr (fun f a => a = x ∧ 500 ≤ f) h.c h10.c := by rw [e10]; exact F8.sfr _ (fun _ => ⟨rfl, by decide⟩)
  have k10 : h10.kd = h.kd := by rw [e10, e8, e7, e6, e4, e3, e2]; rfl
  have c12 : h12.c = h10.c := by rw [e12, e11]; rfl
  have k12 : (h12.kd x).1 = 5 := by
    show (h12.c.kd x).1 = 5
    rw [c12]; show (h10.kd x).1 = 5; rw [k10]; exact hk
  have r12 : h12.rc = h.rc ∧ h12.rs = h.rs := by rw [e12]; exact ⟨rfl, rfl⟩
  refine ⟨nn_of rfl k12, ?_⟩
  intro h15 e15 h16 e16
  have F12 : Fr (fun f a => a = x ∧ 500 ≤ f) h.c h12.c := by rw [c12]; exact F10
  refine hQ h16 ?_ ?_ ?_ ?_ ?_
  · rw [e16, e15]; exact (F12.sfi _ (fun _ => ⟨rfl, by decide⟩)).sfi _ (fun _ => ⟨rfl, by decide⟩)
  · rw [e16, sfi_ne _ _ _ _ (by decide), e15, sfi_same]
  · rw [e16, sfi_same]
  · rw [e16, e15]; exact r12.1
  · rw [e16, e15]; exact r12.2
/-- what is thrown. -/
def thK (t : Tk) (k : Nat) : Fl := if k = 2 then bad t 2 else (k, t.fr)
theorem g_wrong (K : RdK h.c lo q o jn tpa tp n t) {k : Nat} (hk : k < 10) {kk : Int32} (ek : kk = I k) (hc : 1 ≤ h.rc) (hs : 8 ≤ h.rs) {X : Nat → AH → Prop} (hX : ∀ x h', Fr W0 h.c h'.c → ThR h'.c x (thK t k) → X x h') :
    cl h fun mc ms => wp_X2_wrong q kk (h.srm mc ms) fun r h11 => ∀ h12, h12 = h11.srm (h.rc - mc) (h.rs - ms) → nn h12 r 5 ∧ X (adr r) h12 := by
  refine ⟨1, 8, ⟨hc, hs⟩, ?_⟩
  dsimp only
  unfold wp_X2_wrong
  refine ⟨⟨Nat.le_refl _, Nat.le_refl _⟩, ?_⟩
  intro h1 e1
  have ql : q < h.sz := K.R.l
  have F1 : Fr W0 h.c h1.c := by rw [e1]; exact Fr.new (h := h.srm 1 8) (Fr.refl h.c) _ _ _
  have K1 := K.keep0 F1
  have f1 : h1.fi 301 q = I t.fr := K1.T.f1
  have f8 : h1.fi 308 q = if t.kd = 1 then 1 else 0 := K1.T.f8
  have k1 : (h1.kd h.sz).1 = 5 := by
    rw [e1]
    show (((h.srm 1 8).new 5 0 8).kd h.sz).1 = 5
    rw [new_kd]; exact congrArg Prod.fst (if_pos rfl)
  have s1 : h1.sz = h.sz + 1 := by rw [e1]; rfl
  have fin : ∀ (p : Int32), p = I (thK t k).1 → wp_X4_init h.sz p (h1.fi 301 q) (h1.srm 0 0) fun h11 => ∀ h12, h12 = h11.srm h1.rc h1.rs → ∀ h13, h13 = h12.srm (h.rc - 1) (h.rs - 8) → nn h13 (some h.sz) 5 ∧ X (adr (some h.sz)) h13 := by
    intro p hp
    refine px_wInit (h := h1.srm 0 0) k1 ?_
    intro h11 F11 g1 g2 _ _ h12 e12 h13 e13
    have c13 : h13.c = h11.c := by rw [e13, e12]; rfl
    have F13 : Fr (fun f a => a = h.sz ∧ 500 ≤ f) h1.c h13.c := by rw [c13]; exact F11
    have k13 : (h13.c.kd h.sz).1 = 5 := by rw [F13.kd h.sz (by show h.sz < h1.sz; omega)]; exact k1
    have s13 : h1.sz ≤ h13.sz := F13.sz
    refine ⟨nn_of rfl k13, hX h.sz h13 (F1.trans' F13 (fun f a ha hh => by have h9 : a < h.sz := ha; have := hh.1; omega)) ⟨k13, by show h.sz < h13.sz; omega, ?_, ?_⟩⟩
    · rw [c13]; show h11.fi 506 h.sz = _; rw [g1, hp]
    · rw [c13]; show h11.fi 507 h.sz = _; rw [g2, f1]
      unfold thK; split <;> rfl
  by_cases h2 : k = 2
  · refine brT (by rw [ek, h2]; rfl) ⟨nn_of rfl K1.R.k, ?_⟩
    intro m8 e8
    refine fin m8 ?_
    rw [e8, f8]
    unfold thK bad
    rw [if_pos h2]
    by_cases h9 : t.kd = 1
    · rw [if_pos h9, if_neg (by decide)]
      show (1 : Int32) = I (if t.kd = 1 then 1 else 2)
      rw [if_pos h9]; rfl
    · rw [if_neg h9, if_pos rfl, ek, h2]
      show I 2 = I (if t.kd = 1 then 1 else 2)
      rw [if_neg h9]
  · refine brF (fun hh => h2 ?_) ⟨nn_of rfl K1.R.k, fin kk ?_⟩
    · rw [ek] at hh
      have h9 : I k = I 2 := hh
      exact (I_eq (by omega) (by decide)).1 h9
    · unfold thK; rw [if_neg h2]; exact ek

theorem g_wr (K : RdK h.c lo q o jn tpa tp n t) {k : Nat} (hk : k < 10) {kk : Int32} (ek : kk = I k) (hc : 1 ≤ h.rc) (hs : 8 ≤ h.rs) {R : Option Nat → AH → Prop} (hX : ∀ x h', Fr W0 h.c h'.c → ThR h'.c x (thK t k) → R (some x) h') :
    cl h fun mc ms => wp_X2_wrong q kk (h.srm mc ms) fun r h11 => ∀ h12, h12 = h11.srm (h.rc - mc) (h.rs - ms) → R r h12 := by
  have key : ∀ (r : Option Nat) (U : AH), (nn U r 5 ∧ ∀ x, r = some x → R (some x) U) → R r U := by
    rintro r U ⟨⟨a, e, _⟩, h2⟩
    rw [e]; exact h2 a e
  obtain ⟨mc, ms, hl, hh⟩ := g_wrong K hk ek hc hs (X := fun x U => R (some x) U) hX
  refine ⟨mc, ms, hl, ?_⟩
  have mono : ∀ {h : AH} {kk : Int32} {Q Q' : Option Nat → AH → Prop}, (∀ r U, Q r U → Q' r U) → wp_X2_wrong q kk h Q → wp_X2_wrong q kk h Q' := by
    intro h kk Q Q' hq hh
    obtain ⟨a, b⟩ := hh
    refine ⟨a, fun h1 e1 => ?_⟩
    obtain ⟨b1, b2⟩ := b h1 e1
    have m4 : ∀ {x : Nat} {p0 p1 : Int32} {h : AH} {Q Q' : AH → Prop}, (∀ U, Q U → Q' U) → wp_X4_init x p0 p1 h Q → wp_X4_init x p0 p1 h Q' := by
      intro x p0 p1 h Q Q' hq hh
      unfold wp_X4_init wp_J14_init wp_J13_init_2 at *
      refine ⟨hh.1, fun h2 e2 h3 e3 h4 e4 => ⟨fun e => ?_, fun e => (hh.2 h2 e2 h3 e3 h4 e4).2 e⟩⟩
      intro h6 e6 h7 e7 h8 e8
      have hh' := (hh.2 h2 e2 h3 e3 h4 e4).1 e h6 e6 h7 e7 h8 e8
      refine ⟨fun e9 h10 e10 h11 e11 h12 e12 => ?_, fun e9 h11 e11 h12 e12 => ?_⟩
      · obtain ⟨c1, c2⟩ := hh'.1 e9 h10 e10 h11 e11 h12 e12
        exact ⟨c1, fun h15 e15 h16 e16 => hq _ (c2 h15 e15 h16 e16)⟩
      · obtain ⟨c1, c2⟩ := hh'.2 e9 h11 e11 h12 e12
        exact ⟨c1, fun h15 e15 h16 e16 => hq _ (c2 h15 e15 h16 e16)⟩
    refine ⟨fun e => ?_, fun e => ?_⟩
    · obtain ⟨c1, c2⟩ := b1 e
      exact ⟨c1, fun m8 em => m4 (fun U hU h12 e12 => hq _ _ (hU h12 e12)) (c2 m8 em)⟩
    · obtain ⟨c1, c2⟩ := b2 e
      exact ⟨c1, m4 (fun U hU h12 e12 => hq _ _ (hU h12 e12)) c2⟩
  refine mono ?_ hh
  intro r U hU h12 e12
  obtain ⟨n5, hx⟩ := hU h12 e12
  obtain ⟨a, e, hk⟩ := n5
  rw [e] at hx ⊢
  exact hx
/-- taken, if it is there. -/
theorem g_takes (K : RdK h.c lo q o jn tpa tp n t) {k : Nat} (hk : k < 24) {b : Bool} (hb : isB tp n t (ksb k) ↔ b = true) (hc : b = true → 5 ≤ h.rc) (hs : b = true → 68 ≤ h.rs) {P : Int32 → AH → Prop} (h0 : b = false → P 0 h)
    (h1 : b = true → ∀ h', Fr (WG lo q) h.c h'.c → RdK h'.c lo q o jn tpa tp n (nxt tp n t) → h'.rc = h.rc - 5 → h'.rs = h.rs - 68 → P 1 h') :
    cl h fun mc ms => wp_X2_takes q (sref (h.cs k)) (h.srm mc ms) fun r h3 => ∀ h4, h4 = h3.srm (h.rc - mc) (h.rs - ms) → P r h4 := by
  cases hbb : b with
  | false =>
    rw [hbb] at hb h0
    refine ⟨0, 0, ⟨Nat.zero_le _, Nat.zero_le _⟩, ?_⟩
    dsimp only
    unfold wp_X2_takes
    refine ⟨nn_of rfl K.R.k, ?_⟩
    refine px_isG (h := (h.srm 0 0).srm 0 0) K hk ?_
    intro h4 e4
    have e4' : h4 = h.srm 0 0 := by rw [e4]; rfl
    rw [if_neg (fun hh => by have := hb.1 hh; exact absurd this (by decide)), e4']
    refine brT rfl ⟨.inl rfl, ?_⟩
    intro h5 e5
    have e5' : h5 = h := by rw [e5]; rfl
    rw [e5']; exact h0 rfl
  | true =>
    rw [hbb] at hb h1 hc hs
    refine ⟨5, 68, ⟨hc rfl, hs rfl⟩, ?_⟩
    dsimp only
    unfold wp_X2_takes
    refine ⟨nn_of rfl K.R.k, ?_⟩
    refine px_isG (h := (h.srm 5 68).srm 0 0) K hk ?_
    intro h4 e4
    have e4' : h4 = h.srm 5 68 := by rw [e4]; rfl
    rw [if_pos (hb.2 rfl), e4']
    refine brF (by decide) ⟨nn_of rfl K.R.k, ?_⟩
    refine g_reads (h := h.srm 5 68) K (Nat.le_refl _) (Nat.le_refl _) ?_
    intro h9 F9 K9 _ _
    refine ⟨.inr rfl, ?_⟩
    intro h10 e10
    have c10 : h10.c = h9.c := by rw [e10]; rfl
    exact h1 rfl h10 (by rw [c10]; exact F9) (by rw [c10]; exact K9) (by rw [e10]; rfl) (by rw [e10]; rfl)

/-- it must be there. -/
theorem g_must (K : RdK h.c lo q o jn tpa tp n t) {k : Nat} (hk : k < 24) {b : Bool} (hb : isB tp n t (ksb k) ↔ b = true) (hc : 5 ≤ h.rc) (hs : 68 ≤ h.rs) {P : AH → Prop} {X : Nat → AH → Prop}
    (h1 : b = true → ∀ h', Fr (WG lo q) h.c h'.c → RdK h'.c lo q o jn tpa tp n (nxt tp n t) → h'.rc = h.rc - 5 → h'.rs = h.rs - 68 → P h') (h0 : b = false → ∀ x h', Fr W0 h.c h'.c → ThR h'.c x (bad t 2) → X x h') :
    cl h fun mc ms => wp_X2_must q (sref (h.cs k)) (h.srm mc ms) (fun h3 => ∀ h4, h4 = h3.srm (h.rc - mc) (h.rs - ms) → P h4) (fun q8 h9 => ∀ h10, h10 = h9.srm (h.rc - mc) (h.rs - ms) → X q8 h10) := by
  refine ⟨5, 68, ⟨hc, hs⟩, ?_⟩
  dsimp only
  unfold wp_X2_must
  refine ⟨nn_of rfl K.R.k, ?_⟩
  refine g_takes (h := h.srm 5 68) K hk hb (fun _ => Nat.le_refl _) (fun _ => Nat.le_refl _) ?_ ?_
  · intro hbb
    refine brT rfl ⟨nn_of rfl K.R.k, ?_⟩
    refine g_wrong (h := h.srm 5 68) K (k := 2) (by decide) (by rfl) (show 1 ≤ 5 by decide) (show 8 ≤ 68 by decide) (X := fun x h12 => ∀ h10, h10 = h12.srm (h.rc - 5) (h.rs - 68) → X x h10) ?_
    intro x h' F T h10 e10
    have c10 : h10.c = h'.c := by rw [e10]; rfl
    exact h0 hbb x h10 (by rw [c10]; exact F) (by rw [c10]; exact T)
  · intro hbb h' F K' _ _
    refine brF (by decide) ?_
    intro h4 e4
    have c4 : h4.c = h'.c := by rw [e4]; rfl
    exact h1 hbb h4 (by rw [c4]; exact F) (by rw [c4]; exact K') (by rw [e4]; rfl) (by rw [e4]; rfl)

/-- a number must be there. -/
theorem g_number (K : RdK h.c lo q o jn tpa tp n t) (hc : 5 ≤ h.rc) (hs : 68 ≤ h.rs) {P : Int32 → AH → Prop} {X : Nat → AH → Prop}
    (h1 : t.kd = 3 → ∀ h', Fr (WG lo q) h.c h'.c → RdK h'.c lo q o jn tpa tp n (nxt tp n t) → h'.rc = h.rc - 5 → h'.rs = h.rs - 68 → P (I t.nu) h') (h0 : t.kd ≠ 3 → ∀ x h', Fr W0 h.c h'.c → ThR h'.c x (bad t 2) → X x h') :
    cl h fun mc ms => wp_X2_number q (h.srm mc ms) (fun r h3 => ∀ h4, h4 = h3.srm (h.rc - mc) (h.rs - ms) → P r h4) (fun q8 h9 => ∀ h10, h10 = h9.srm (h.rc - mc) (h.rs - ms) → X q8 h10) := by
  refine ⟨5, 68, ⟨hc, hs⟩, ?_⟩
  dsimp only
  unfold wp_X2_number
  refine ⟨nn_of rfl K.R.k, ?_⟩
  have f8 : (h.srm 5 68).fi 308 q = if t.kd = 1 then 1 else 0 := K.T.f8
  have f7 : (h.srm 5 68).fi 307 q = if dgt tp n t.fr then 1 else 0 := K.T.f7
  rw [f8, f7]
  have wr : t.kd ≠ 3 → cl (h.srm 5 68) fun mc ms => wp_X2_wrong q 2 ((h.srm 5 68).srm mc ms) fun r h11 => ∀ h12, h12 = h11.srm ((h.srm 5 68).rc - mc) ((h.srm 5 68).rs - ms) → nn h12 r 5 ∧ ∀ h10, h10 = h12.srm (h.rc - 5) (h.rs - 68) → X (adr r) h10 := by
    intro h3
    refine g_wrong (h := h.srm 5 68) K (k := 2) (by decide) (by rfl) (show 1 ≤ 5 by decide) (show 8 ≤ 68 by decide) (X := fun x h12 => ∀ h10, h10 = h12.srm (h.rc - 5) (h.rs - 68) → X x h10) ?_
    intro x h' F T h10 e10
    have c10 : h10.c = h'.c := by rw [e10]; rfl
    exact h0 h3 x h10 (by rw [c10]; exact F) (by rw [c10]; exact T)
  have kk : t.kd = 3 ↔ dgt tp n t.fr = true ∧ t.kd ≠ 1 := by
    obtain ⟨fr, ht⟩ := K.T.kk
    rcases tok_cases ht with ⟨hn, e⟩ | ⟨_, _, hd, e⟩ | ⟨_, _, hd, e⟩ | ⟨_, _, hd, e⟩
    · rw [e]
      constructor
      · intro hh; exact absurd (show (0 : Nat) = 3 from hh) (by decide)
      · rintro ⟨hh, _⟩
        have h9 : dgt tp n fr = true := hh
        rw [dgt_n hn] at h9
        exact absurd h9 (by decide)
    · rw [e]
      constructor
      · intro hh
        have h9 : (if 8 < eL tp n fr - fr then 1 else 2) = 3 := hh
        split at h9 <;> omega
      · rintro ⟨hh, _⟩
        have h9 : dgt tp n fr = true := hh
        rw [hd] at h9
        exact absurd h9 (by decide)
    · rw [e]
      show (if 4 < eD tp n fr - fr then 1 else 3) = 3 ↔ dgt tp n fr = true ∧ (if 4 < eD tp n fr - fr then 1 else 3) ≠ 1
      rw [hd]
      split <;> simp
    · rw [e]
      constructor
      · intro hh
        have h9 : (if sgn (tp fr) = true then 4 else 1) = 3 := hh
        split at h9 <;> omega
      · rintro ⟨hh, _⟩
        have h9 : dgt tp n fr = true := hh
        rw [hd] at h9
        exact absurd h9 (by decide)
  by_cases hd : dgt tp n t.fr = true
  · rw [if_pos hd]
    refine brF (by decide) ?_
    by_cases h9 : t.kd = 1
    · rw [if_pos h9]
      exact brF (by decide) (wr (by omega))
    · rw [if_neg h9]
      refine brT rfl ?_
      refine g_reads (h := h.srm 5 68) K (Nat.le_refl _) (Nat.le_refl _) ?_
      intro h' F K' _ _ h4 e4
      have c4 : h4.c = h'.c := by rw [e4]; rfl
      have f6 : (h.srm 5 68).fi 306 q = I t.nu := K.T.f6 hd
      rw [f6]
      exact h1 (kk.2 ⟨hd, h9⟩) h4 (by rw [c4]; exact F) (by rw [c4]; exact K') (by rw [e4]; rfl) (by rw [e4]; rfl)
  · rw [if_neg hd]
    exact brT rfl (wr (fun hh => hd (kk.1 hh).1))

theorem px_isEnd (K : RdK h.c lo q o jn tpa tp n t) {Q : Int32 → AH → Prop} (hQ : Q (if t.kd = 0 then 1 else 0) h) : wp_X2_isEnd q h Q := by
  have hm := K.R.m
  obtain ⟨fr, ht⟩ := K.T.kk
  have tf : t.fr = fr := by rw [ht]; exact tokA_fr fr
  have h0 : t.kd = 0 ↔ n ≤ fr := by rw [ht]; exact tokA_kd0 fr
  have hle : fr ≤ n := by
    have h1 := tokA_to (tp := tp) (n := n) fr
    rw [← ht] at h1
    have := K.T.l2
    have := h1.1
    omega
  refine ⟨nn_of rfl K.R.k, ?_⟩
  have f1 : h.fi 301 q = I fr := by rw [← tf]; exact K.T.f1
  rw [f1, show h.fi 300 q = I n from K.R.s]
  intro m em
  by_cases hn : fr < n
  · rw [if_pos ((I_lt (by omega) (by omega)).2 hn)] at em
    rw [if_neg (by rw [h0]; omega)] at hQ
    rw [em]; exact ⟨.inl rfl, hQ⟩
  · rw [if_neg (fun hh => hn ((I_lt (by omega) (by omega)).1 hh))] at em
    rw [if_pos (h0.2 (by omega))] at hQ
    rw [em]; exact ⟨.inr rfl, hQ⟩
end
