/-! plain: lx3 -/
set_option maxRecDepth 100000
section
variable {T : TS} {tp : Nat → Nat} {n : Nat} {t : Tk}

theorem pt_spelt {a b c d e f : Nat} (ha : 97 ≤ a ∧ a ≤ 122) (hb : 97 ≤ b ∧ b ≤ 122) (hc : c = 0 ∨ 97 ≤ c ∧ c ≤ 122) (hd : d = 0 ∨ 97 ≤ d ∧ d ≤ 122) (he : e = 0 ∨ 97 ≤ e ∧ e ≤ 122) (hf : f = 0 ∨ 97 ≤ f ∧ f ≤ 122) {Q : Int64 → TS → Prop}
    (h : Q (Jw (cdW ([a, b] ++ (if c = 0 then [] else [c]) ++ (if d = 0 then [] else [d]) ++ (if e = 0 then [] else [e]) ++ (if f = 0 then [] else [f])))) T) : wp_X1_spelt (I a) (I b) (I c) (I d) (I e) (I f) T Q := by
  unfold wp_X1_spelt
  have s0 : ((27 * (Int32.toInt64 (I a) - 96)) + Int32.toInt64 (I b)) - 96 = Jw (cdW [a, b]) := by
    have e0 : Int32.toInt64 (I a) - 96 = Jw (a - 96) := by
      rw [J_of (by omega)]
      show Int64.ofNat a - Int64.ofNat 96 = _
      rw [← Int64.ofNat_sub _ _ (by omega)]
    rw [e0, J_step (by omega) (by omega)]
    show Jw (27 * (a - 96) + (b - 96)) = Jw (27 * (27 * 0 + (a - 96)) + (b - 96))
    congr 2
    omega
  have st : ∀ (l : List Nat) (x : Nat), 97 ≤ x ∧ x ≤ 122 → ((27 * Jw (cdW l)) + Int32.toInt64 (I x)) - 96 = Jw (cdW (l ++ [x])) := fun l x hx => by
    rw [J_step (by omega) (by omega), cdW_snoc]
  have z : ∀ x : Nat, x = 0 ∨ 97 ≤ x ∧ x ≤ 122 → (I x ≤ 0 ↔ x = 0) := fun x hx => by
    rw [le_L 0 (by decide) (by omega)]
    show x ≤ 0 ↔ x = 0
    omega
  rw [s0]
  refine ⟨fun v U => v = Jw (cdW ([a, b] ++ (if c = 0 then [] else [c]))) ∧ U = T, ?_, ?_⟩
  · by_cases h0 : c = 0
    · rw [if_pos h0, List.append_nil]
      exact brT ((z c hc).2 h0) ⟨rfl, rfl⟩
    · rw [if_neg h0, st _ _ (hc.resolve_left h0)]
      exact brF (fun hh => h0 ((z c hc).1 hh)) ⟨rfl, rfl⟩
  intro v U hv
  obtain ⟨hv, hU⟩ := hv
  rw [hv, hU]
  clear hv hU v U
  generalize hl1 : [a, b] ++ (if c = 0 then [] else [c]) = l1 at *
  refine ⟨fun v U => v = Jw (cdW (l1 ++ (if d = 0 then [] else [d]))) ∧ U = T, ?_, ?_⟩
  · by_cases h0 : d = 0
    · rw [if_pos h0, List.append_nil]
      exact brT ((z d hd).2 h0) ⟨rfl, rfl⟩
    · rw [if_neg h0, st _ _ (hd.resolve_left h0)]
      exact brF (fun hh => h0 ((z d hd).1 hh)) ⟨rfl, rfl⟩
  intro v U hv
  obtain ⟨hv, hU⟩ := hv
  rw [hv, hU]
  clear hv hU v U
  generalize hl2 : l1 ++ (if d = 0 then [] else [d]) = l2 at *
  by_cases h0 : e = 0
  · rw [if_pos h0, List.append_nil] at h
    refine brT ((z e he).2 h0) ?_
    by_cases h1 : f = 0
    · rw [if_pos h1, List.append_nil] at h
      exact brT ((z f hf).2 h1) h
    · rw [if_neg h1] at h
      rw [st _ _ (hf.resolve_left h1)]
      exact brF (fun hh => h1 ((z f hf).1 hh)) h
  · rw [if_neg h0] at h
    rw [st _ _ (he.resolve_left h0)]
    refine brF (fun hh => h0 ((z e he).1 hh)) ?_
    by_cases h1 : f = 0
    · rw [if_pos h1, List.append_nil] at h
      exact brT ((z f hf).2 h1) h
    · rw [if_neg h1] at h
      rw [st _ _ (hf.resolve_left h1)]
      exact brF (fun hh => h1 ((z f hf).1 hh)) h

theorem pt_wordOf {k : Nat} (hk : k < 9) {Q : Int64 → TS → Prop} (h : Q (Jw (cdW (kw k))) T) : wp_X1_wordOf (I k) T Q := by
  unfold wp_X1_wordOf
  have q : ∀ j, j < 9 → (I k = I j ↔ k = j) := fun j hj => I_eq (by omega) (by omega)
  by_cases h0 : k = 0
  · subst h0
    refine brT rfl ?_
    exact pt_spelt (a := 115) (b := 121) (c := 109) (d := 98) (e := 111) (f := 108) (by decide) (by decide) (by decide) (by decide) (by decide) (by decide) h
  refine brF (fun hh => h0 ((q 0 (by decide)).1 hh)) ?_
  by_cases h1 : k = 1
  · subst h1
    refine brT rfl ?_
    exact pt_spelt (a := 112) (b := 114) (c := 111) (d := 100) (e := 0) (f := 0) (by decide) (by decide) (by decide) (by decide) (by decide) (by decide) h
  refine brF (fun hh => h1 ((q 1 (by decide)).1 hh)) ?_
  by_cases h2 : k = 2
  · subst h2
    refine brT rfl ?_
    exact pt_spelt (a := 114) (b := 117) (c := 108) (d := 101) (e := 0) (f := 0) (by decide) (by decide) (by decide) (by decide) (by decide) (by decide) h
  refine brF (fun hh => h2 ((q 2 (by decide)).1 hh)) ?_
  by_cases h3 : k = 3
  · subst h3
    refine brT rfl ?_
    exact pt_spelt (a := 105) (b := 110) (c := 0) (d := 0) (e := 0) (f := 0) (by decide) (by decide) (by decide) (by decide) (by decide) (by decide) h
  refine brF (fun hh => h3 ((q 3 (by decide)).1 hh)) ?_
  by_cases h4 : k = 4
  · subst h4
    refine brT rfl ?_
    exact pt_spelt (a := 111) (b := 117) (c := 116) (d := 0) (e := 0) (f := 0) (by decide) (by decide) (by decide) (by decide) (by decide) (by decide) h
  refine brF (fun hh => h4 ((q 4 (by decide)).1 hh)) ?_
  by_cases h5 : k = 5
  · subst h5
    refine brT rfl ?_
    exact pt_spelt (a := 110) (b := 117) (c := 109) (d := 0) (e := 0) (f := 0) (by decide) (by decide) (by decide) (by decide) (by decide) (by decide) h
  refine brF (fun hh => h5 ((q 5 (by decide)).1 hh)) ?_
  by_cases h6 : k = 6
  · subst h6
    refine brT rfl ?_
    exact pt_spelt (a := 109) (b := 97) (c := 120) (d := 0) (e := 0) (f := 0) (by decide) (by decide) (by decide) (by decide) (by decide) (by decide) h
  refine brF (fun hh => h6 ((q 6 (by decide)).1 hh)) ?_
  by_cases h7 : k = 7
  · subst h7
    refine brT rfl ?_
    exact pt_spelt (a := 109) (b := 105) (c := 110) (d := 0) (e := 0) (f := 0) (by decide) (by decide) (by decide) (by decide) (by decide) (by decide) h
  refine brF (fun hh => h7 ((q 7 (by decide)).1 hh)) ?_
  have h8 : k = 8 := by omega
  subst h8
  exact pt_spelt (a := 105) (b := 102) (c := 0) (d := 0) (e := 0) (f := 0) (by decide) (by decide) (by decide) (by decide) (by decide) (by decide) h

theorem kw_lts (k : Nat) : lts (kw k) ∧ (kw k).length ≤ 8 := by
  have key : ∀ l : List Nat, (l.all fun b => decide (97 ≤ b) && decide (b ≤ 122)) = true → lts l := fun l hl b hb => by
    have := List.all_eq_true.1 hl b hb
    simp at this
    exact this
  unfold kw
  split
  · exact ⟨key _ (by decide), by decide⟩
  split
  · exact ⟨key _ (by decide), by decide⟩
  split
  · exact ⟨key _ (by decide), by decide⟩
  split
  · exact ⟨key _ (by decide), by decide⟩
  split
  · exact ⟨key _ (by decide), by decide⟩
  split
  · exact ⟨key _ (by decide), by decide⟩
  split
  · exact ⟨key _ (by decide), by decide⟩
  split
  · exact ⟨key _ (by decide), by decide⟩
  · exact ⟨key _ (by decide), by decide⟩

theorem cmp_eq {l m : List Nat} (hl : lts l ∧ l.length ≤ 8) (hm : lts m ∧ m.length ≤ 8) : lg_cmp (Jw (cdW l)) (Jw (cdW m)) = 0 ↔ l = m := by
  rw [lg_cmp_eq, J_eq (cdW_lt hl.1 hl.2) (cdW_lt hm.1 hm.2)]
  exact ⟨fun h => cdW_inj hl.1 hm.1 h, fun h => by rw [h]⟩

theorem TwT.wl (K : TwT T tp n t) (h : t.kd = 2) : lts (wrd tp t) ∧ (wrd tp t).length ≤ 8 := by
  obtain ⟨fr, e⟩ := K.k
  rw [e] at h ⊢
  have := tok_word h
  exact ⟨this.1, this.2.1⟩
theorem TwT.k5 (K : TwT T tp n t) : t.kd < 5 := by
  obtain ⟨fr, e⟩ := K.k
  rw [e]
  unfold tokA
  by_cases h : fr < n
  · rw [if_pos h]
    by_cases hl : ltr tp n fr = true
    · rw [if_pos hl]
      show (if 8 < eL tp n fr - fr then 1 else 2) < 5
      split <;> omega
    · rw [if_neg hl]
      by_cases hd : dgt tp n fr = true
      · rw [if_pos hd]
        show (if 4 < eD tp n fr - fr then 1 else 3) < 5
        split <;> omega
      · rw [if_neg hd]
        show (if sgn (tp fr) = true then 4 else 1) < 5
        split <;> omega
  · rw [if_neg h]
    show 0 < 5
    omega
theorem TwT.keep {A S L : List Nat} {U : TS} (K : TwT T tp n t) (F : Tcw A S L T U) (hw : U.w 218 = T.w 218) (h1 : 0 ∉ A) (h2 : ∀ j, j ∈ [210, 211, 212, 213, 214, 215, 216, 217] → j ∉ S) : TwT U tp n t :=
  ⟨K.p.keep F h1 (fun j hj => h2 j (by revert j; decide)), (F.s _ (h2 _ (by decide))).trans K.fr, (F.s _ (h2 _ (by decide))).trans K.to, (F.s _ (h2 _ (by decide))).trans K.kd, fun h => (F.s _ (h2 _ (by decide))).trans (K.nu h), fun h => (F.s _ (h2 _ (by decide))).trans (K.sg h), fun h => hw.trans (K.wd h), K.l1, K.l2, K.k⟩

theorem pt_isWord (K : TwT T tp n t) {k : Nat} (hk : k < 9) {Q : Int32 → TS → Prop} (h : Q (if isW tp t k then 1 else 0) T) : wp_X1_isWord (I k) T Q := by
  have h5 := K.k5
  unfold wp_X1_isWord
  rw [K.kd]
  by_cases h2 : t.kd = 2
  · refine brT (by rw [h2]; rfl) ?_
    refine pt_wordOf hk ?_
    intro m hm
    rw [K.wd h2] at hm
    have e := cmp_eq (K.wl h2) (kw_lts k)
    by_cases hw : wrd tp t = kw k
    · rw [if_pos (e.2 hw)] at hm
      rw [if_pos (isW_iff.2 ⟨h2, hw⟩)] at h
      rw [hm]; exact ⟨.inr rfl, h⟩
    · rw [if_neg (fun hh => hw (e.1 hh))] at hm
      rw [if_neg (fun hh => hw (isW_iff.1 hh).2)] at h
      rw [hm]; exact ⟨.inl rfl, h⟩
  · refine brF (fun hh => h2 ((eq_L 2 (by decide) (by omega)).1 hh)) ?_
    rw [if_neg (fun hh => h2 (isW_iff.1 hh).1)] at h
    exact h
theorem pt_isName (K : TwT T tp n t) {Q : Int32 → TS → Prop} (h : Q (if isNm tp t then 1 else 0) T) : wp_X1_isName T Q := by
  have h5 := K.k5
  unfold wp_X1_isName
  rw [K.kd]
  by_cases h2 : t.kd = 2
  rotate_left
  · refine brF (fun hh => h2 ((eq_L 2 (by decide) (by omega)).1 hh)) ?_
    rw [if_neg (fun hh => h2 (isNm_iff.1 hh).1)] at h
    exact h
  refine brT (by rw [h2]; rfl) ?_
  refine tlp_cnt 9 (fun k s U => s = I k ∧ U = T ∧ ∀ j, j < k → wrd tp t ≠ kw j) ⟨rfl, rfl, fun j hj => by omega⟩ ?_
  intro k s U K2 hk hh hK
  obtain ⟨hs, hU, hf⟩ := hh
  rw [hs, hU]
  by_cases e : k = 9
  · refine brT (by (first | omega | ((try simp (disch := omega) only [L_le, le_L, L_lt, lt_L, eq_L, L_eq, I_le, I_lt, I_eq, I_ni, add_L, L_add, I_add, mul_L, L_mul, I_mul, sub_L, L_sub, I_sub, div_L, rem_L]); done) | ((try simp (disch := omega) only [L_le, le_L, L_lt, lt_L, eq_L, L_eq, I_le, I_lt, I_eq, I_ni, add_L, L_add, I_add, mul_L, L_mul, I_mul, sub_L, L_sub, I_sub, div_L, rem_L]); omega))) ?_
    rw [if_pos (isNm_iff.2 ⟨h2, fun j hj => hf j (by omega)⟩)] at h
    exact h
  refine brF (by (first | omega | ((try simp (disch := omega) only [L_le, le_L, L_lt, lt_L, eq_L, L_eq, I_le, I_lt, I_eq, I_ni, add_L, L_add, I_add, mul_L, L_mul, I_mul, sub_L, L_sub, I_sub, div_L, rem_L]); done) | ((try simp (disch := omega) only [L_le, le_L, L_lt, lt_L, eq_L, L_eq, I_le, I_lt, I_eq, I_ni, add_L, L_add, I_add, mul_L, L_mul, I_mul, sub_L, L_sub, I_sub, div_L, rem_L]); omega))) ?_
  refine pt_wordOf (by omega) ?_
  rw [K.wd h2]
  have ec := cmp_eq (K.wl h2) (kw_lts k)
  by_cases hw : wrd tp t = kw k
  · refine brT (ec.2 hw) ?_
    rw [if_neg (fun hh => (isNm_iff.1 hh).2 k (by omega) hw)] at h
    exact h
  · refine brF (fun hh => hw (ec.1 hh)) ?_
    (try simp (disch := omega) only [L_le, le_L, L_lt, lt_L, eq_L, L_eq, I_le, I_lt, I_eq, I_ni, add_L, L_add, I_add, mul_L, L_mul, I_mul, sub_L, L_sub, I_sub, div_L, rem_L])
    refine hK _ _ (by omega) ⟨rfl, rfl, fun j hj => ?_⟩
    by_cases ej : j = k
    · rw [ej]; exact hw
    · exact hf j (by omega)
theorem TwT.sg2 (K : TwT T tp n t) (h : t.kd = 4) : t.sg < 256 := by
  obtain ⟨fr, e⟩ := K.k
  rw [e] at h ⊢
  unfold tokA at h ⊢
  by_cases h0 : fr < n
  · rw [if_pos h0] at h ⊢
    by_cases hl : ltr tp n fr = true
    · rw [if_pos hl]
      show 0 < 256
      omega
    · rw [if_neg hl] at h ⊢
      by_cases hd : dgt tp n fr = true
      · rw [if_pos hd]
        show 0 < 256
        omega
      · rw [if_neg hd]
        exact K.p.b fr h0
  · rw [if_neg h0]
    show 0 < 256
    omega
theorem pt_isSign (K : TwT T tp n t) {c : Nat} (hc : c < 256) {Q : Int32 → TS → Prop} (h : Q (if isSg t c then 1 else 0) T) : wp_X1_isSign (I c) T Q := by
  have h5 := K.k5
  intro m hm
  rw [K.kd] at hm
  have : m = if isSg t c then 1 else 0 := by
    rw [hm]
    by_cases h4 : t.kd = 4
    · have := K.sg2 h4
      rw [if_pos (by rw [h4]; rfl), K.sg h4]
      by_cases hs : t.sg = c
      · rw [if_pos (by rw [hs]), if_pos (isSg_iff.2 ⟨h4, hs⟩)]
      · rw [if_neg (fun hh => hs ((I_eq (by omega) (by omega)).1 hh)), if_neg (fun hh => hs (isSg_iff.1 hh).2)]
    · rw [if_neg (fun hh => h4 ((eq_L 4 (by decide) (by omega)).1 hh)), if_neg (fun hh => h4 (isSg_iff.1 hh).1)]
  rw [this]
  refine ⟨?_, h⟩
  by_cases hb : isSg t c = true <;> simp [bz, hb]
/-- a fault is told. -/
def TwF (U : TS) (f : Fl) : Prop := U.s 216 = I f.1 ∧ U.s 217 = I f.2
theorem pt_bad (K : TwT T tp n t) {k : Nat} (hk : k < 10) {Q : Int32 → TS → Prop} (h : ∀ U, Tcw [] [216, 217] [] T U → TwF U (bad t k) → Q 0 U) : wp_X1_bad (I k) T Q := by
  have h5 := K.k5
  intro m hm U1 hU1 U2 hU2
  have hm' : m = I (if t.kd = 1 then 1 else k) := by
    rw [hm, K.kd]
    by_cases h1 : t.kd = 1
    · rw [if_pos (by rw [h1]; rfl), if_pos h1]; rfl
    · rw [if_neg (fun hh => h1 ((eq_L 1 (by decide) (by omega)).1 hh)), if_neg h1]
  refine h U2 (by rw [hU2, hU1]; exact ((Tcw.refl T).ss (by decide) _).ss (by decide) _) ⟨?_, ?_⟩
  · rw [hU2, ss_s, if_neg (by decide), hU1, ss_s, if_pos rfl, hm']; rfl
  · rw [hU2, ss_s, if_pos rfl, hU1, ss_s, if_neg (by decide), K.fr]; rfl
theorem pt_badAt {k a : Nat} {Q : Int32 → TS → Prop} (h : ∀ U, Tcw [] [216, 217] [] T U → TwF U (k, a) → Q 0 U) : wp_X1_badAt (I k) (I a) T Q := by
  intro U1 hU1 U2 hU2
  refine h U2 (by rw [hU2, hU1]; exact ((Tcw.refl T).ss (by decide) _).ss (by decide) _) ⟨?_, ?_⟩
  · rw [hU2, ss_s, if_neg (by decide), hU1, ss_s, if_pos rfl]
  · rw [hU2, ss_s, if_pos rfl]
theorem pt_nxt (K : TwT T tp n t) {Q : TS → Prop} (h : ∀ U, Tcw [] [211, 212, 213, 214, 215] [] T U → TwT U tp n (nxt tp n t) → Q U) : wp_X1_go T Q := pt_go K.p K.to K.l2 h
theorem pt_eats (K : TwT T tp n t) {c : Nat} (hc : c < 256) {Q : Int32 → TS → Prop} (h1 : ∀ U t', Tcw [] [211, 212, 213, 214, 215] [] T U → pEat tp n c t = .ok t' → TwT U tp n t' → Q 1 U) (h2 : ∀ U f, Tcw [] [216, 217] [] T U → pEat tp n c t = .error f → TwF U f → Q 0 U) : wp_X1_eats (I c) T Q := by
  unfold wp_X1_eats
  refine pt_isSign K hc ?_
  by_cases hb : isSg t c = true
  · rw [if_pos hb]
    refine brF (by decide) ?_
    refine pt_nxt K ?_
    intro U F KU
    exact h1 U _ F (by unfold pEat; rw [if_pos hb]) KU
  · rw [if_neg hb]
    refine brT rfl ?_
    refine pt_bad (k := 2) K (by decide) ?_
    intro U F f
    exact ⟨.inl rfl, h2 U _ F (by unfold pEat; rw [if_neg hb]) f⟩
theorem pt_findIn {r b m : Nat} {w : List Nat} {f : Nat → List Nat} (hr : (r = 3 ∨ r = 4) ∧ b + m ≤ 84) (hf : ∀ k, k < m → T.l r (b + k) = Jw (cdW (f k)) ∧ lts (f k) ∧ (f k).length ≤ 8) (hw : lts w ∧ w.length ≤ 8) {Q : Int32 → TS → Prop} (h : Q (oI (fdN f m w)) T) : wp_X1_findIn r (I b) (I m) (Jw (cdW w)) T Q := by
  have tl : tlen r = 84 ∧ ttg r = 43 := by rcases hr.1 with rfl | rfl <;> exact ⟨rfl, rfl⟩
  have hbm := hr.2
  unfold wp_X1_findIn
  refine tlp_cnt m (fun k s U => s = I k ∧ U = T ∧ fstN (fun k => decide (f k = w)) k = none) ⟨rfl, rfl, rfl⟩ ?_
  intro k s U K hk hh hK
  obtain ⟨hs, hU, hn⟩ := hh
  rw [hs, hU]
  by_cases e : k = m
  · refine brT (by (first | omega | ((try simp (disch := omega) only [L_le, le_L, L_lt, lt_L, eq_L, L_eq, I_le, I_lt, I_eq, I_ni, add_L, L_add, I_add, mul_L, L_mul, I_mul, sub_L, L_sub, I_sub, div_L, rem_L]); done) | ((try simp (disch := omega) only [L_le, le_L, L_lt, lt_L, eq_L, L_eq, I_le, I_lt, I_eq, I_ni, add_L, L_add, I_add, mul_L, L_mul, I_mul, sub_L, L_sub, I_sub, div_L, rem_L]); omega))) ?_
    subst e
    unfold fdN at h
    rw [hn] at h
    exact h
  refine brF (by (first | omega | ((try simp (disch := omega) only [L_le, le_L, L_lt, lt_L, eq_L, L_eq, I_le, I_lt, I_eq, I_ni, add_L, L_add, I_add, mul_L, L_mul, I_mul, sub_L, L_sub, I_sub, div_L, rem_L]); done) | ((try simp (disch := omega) only [L_le, le_L, L_lt, lt_L, eq_L, L_eq, I_le, I_lt, I_eq, I_ni, add_L, L_add, I_add, mul_L, L_mul, I_mul, sub_L, L_sub, I_sub, div_L, rem_L]); omega))) ?_
  (try simp (disch := omega) only [L_le, le_L, L_lt, lt_L, eq_L, L_eq, I_le, I_lt, I_eq, I_ni, add_L, L_add, I_add, mul_L, L_mul, I_mul, sub_L, L_sub, I_sub, div_L, rem_L])
  refine ⟨tix_I tl.2 (by rw [tl.1]; omega) (by rw [tl.1]; decide), ?_⟩
  obtain ⟨f1, f2⟩ := hf k (by omega)
  rw [f1]
  have ec := cmp_eq f2 hw
  by_cases hw' : f k = w
  · refine brT (ec.2 hw') ?_
    have e9 : fdN f m w = some k := fstN_some.2 ⟨by omega, decide_eq_true hw', fstN_none.1 hn⟩
    rw [e9] at h
    exact h
  · refine brF (fun hh => hw' (ec.1 hh)) ?_
    refine hK _ _ (by omega) ⟨rfl, rfl, fstN_none.2 (fun j hj => ?_)⟩
    by_cases ej : j = k
    · rw [ej]; exact decide_eq_false hw'
    · exact fstN_none.1 hn j (by omega)
end
