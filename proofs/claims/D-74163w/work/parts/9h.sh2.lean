/-! plain: sh2 -/
set_option maxRecDepth 100000
section
variable {G : Gv} {T U : TS} {t : SSt} {r : Nat}

/-- what the twin knows of shades. -/
def TwY (T : TS) (t : SSt) (r : Nat) : Prop :=
  (∀ s, s < 8 → T.a 16 s = I (t.mn s)) ∧
  (∀ s k, s < 8 → k < t.mn s → T.a 15 (14 * s + k) = t.sh s k) ∧
  (T.s 240 = I t.cr) ∧
  (T.s 241 = if t.mu then 1 else 0) ∧
  (T.s 242 = if t.nw then 1 else 0) ∧
  (T.s 239 = I r) ∧
  (∀ s, t.mn s ≤ 12) ∧
  (r ≤ 1000) ∧
  (t.cr ≤ 1000)
theorem TwY.mn {T : TS} {t : SSt} {r : Nat} (h9 : TwY T t r) : ∀ s, s < 8 → T.a 16 s = I (t.mn s) := h9.1
theorem TwY.sh {T : TS} {t : SSt} {r : Nat} (h9 : TwY T t r) : ∀ s k, s < 8 → k < t.mn s → T.a 15 (14 * s + k) = t.sh s k := h9.2.1
theorem TwY.cr {T : TS} {t : SSt} {r : Nat} (h9 : TwY T t r) : T.s 240 = I t.cr := h9.2.2.1
theorem TwY.mu {T : TS} {t : SSt} {r : Nat} (h9 : TwY T t r) : T.s 241 = if t.mu then 1 else 0 := h9.2.2.2.1
theorem TwY.nw {T : TS} {t : SSt} {r : Nat} (h9 : TwY T t r) : T.s 242 = if t.nw then 1 else 0 := h9.2.2.2.2.1
theorem TwY.rd {T : TS} {t : SSt} {r : Nat} (h9 : TwY T t r) : T.s 239 = I r := h9.2.2.2.2.2.1
theorem TwY.b {T : TS} {t : SSt} {r : Nat} (h9 : TwY T t r) : ∀ s, t.mn s ≤ 12 := h9.2.2.2.2.2.2.1
theorem TwY.rb {T : TS} {t : SSt} {r : Nat} (h9 : TwY T t r) : r ≤ 1000 := h9.2.2.2.2.2.2.2.1
theorem TwY.cb {T : TS} {t : SSt} {r : Nat} (h9 : TwY T t r) : t.cr ≤ 1000 := h9.2.2.2.2.2.2.2.2
theorem TwY.keep' {A S : List Nat} (Y : TwY T t r) (F : Tch A S T U) (h1 : 15 ∉ A) (h2 : 16 ∉ A) (h3 : ∀ j, j ∈ [239, 240, 241, 242] → j ∉ S) : TwY U t r :=
  ⟨by rw [F.a 16 h2]; exact Y.mn, by rw [F.a 15 h1]; exact Y.sh, (F.s _ (h3 _ (by decide))).trans Y.cr, (F.s _ (h3 _ (by decide))).trans Y.mu, (F.s _ (h3 _ (by decide))).trans Y.nw, (F.s _ (h3 _ (by decide))).trans Y.rd, Y.b, Y.rb, Y.cb⟩

theorem pt_keepsShade (Y : TwY T t r) {s : Nat} (hs : s < 8) {v : Int32} {Q : TS → Prop} (h : ∀ U, Tch [15, 16] [241, 242] T U → TwY U (t.keep s v) r → Q U) : wp_X1_keepsShade (I s) v T Q := by
  have hb := Y.b s
  unfold wp_X1_keepsShade
  unfold SSt.keep at h
  refine tlp_cnt (t.mn s) (fun k q U => q = I k ∧ U = T ∧ ∀ j, j < k → t.sh s j ≠ v) ⟨rfl, rfl, fun j hj => absurd hj (by omega)⟩ ?_
  intro k q U K hk hh hK
  obtain ⟨hq, hU, hno⟩ := hh
  rw [hq, hU]
  refine ⟨tix_I rfl (by show _ < 8; omega) (by decide), ?_⟩
  rw [I_ni (show s < 2147483648 by omega), Y.mn s hs]
  by_cases ek : k = t.mn s
  rotate_left
  · refine brF (by (first | omega | ((try simp (disch := omega) only [L_le, le_L, L_lt, lt_L, eq_L, L_eq, I_le, I_lt, I_eq, I_ni, add_L, L_add, I_add, mul_L, L_mul, I_mul, sub_L, L_sub, I_sub, div_L, rem_L]); done) | ((try simp (disch := omega) only [L_le, le_L, L_lt, lt_L, eq_L, L_eq, I_le, I_lt, I_eq, I_ni, add_L, L_add, I_add, mul_L, L_mul, I_mul, sub_L, L_sub, I_sub, div_L, rem_L]); omega))) ?_
    (try simp (disch := omega) only [L_le, le_L, L_lt, lt_L, eq_L, L_eq, I_le, I_lt, I_eq, I_ni, add_L, L_add, I_add, mul_L, L_mul, I_mul, sub_L, L_sub, I_sub, div_L, rem_L])
    refine ⟨tix_I rfl (by show _ < 112; omega) (by decide), ?_⟩
    rw [Y.sh s k hs (by omega)]
    by_cases he : t.sh s k = v
    · have hsome : (fstN (fun k => decide (t.sh s k = v)) (t.mn s)).isSome = true := by
        cases hf : fstN (fun k => decide (t.sh s k = v)) (t.mn s) with
        | some _ => rfl
        | none =>
          have := fstN_none.1 hf k (by omega)
          rw [he] at this
          exact absurd this (by simp)
      rw [if_pos hsome] at h
      exact brT he (h T (Tch.refl T) Y)
    · refine brF he (hK _ _ (by omega) ⟨rfl, rfl, fun j hj => ?_⟩)
      by_cases ej : j = k
      · rw [ej]; exact he
      · exact hno j (by omega)
  subst ek
  have hnone : ¬ (fstN (fun k => decide (t.sh s k = v)) (t.mn s)).isSome = true := by
    rw [fstN_none.2 (fun k hk => decide_eq_false (hno k hk))]; simp
  rw [if_neg hnone] at h
  refine brT (by (first | omega | ((try simp (disch := omega) only [L_le, le_L, L_lt, lt_L, eq_L, L_eq, I_le, I_lt, I_eq, I_ni, add_L, L_add, I_add, mul_L, L_mul, I_mul, sub_L, L_sub, I_sub, div_L, rem_L]); done) | ((try simp (disch := omega) only [L_le, le_L, L_lt, lt_L, eq_L, L_eq, I_le, I_lt, I_eq, I_ni, add_L, L_add, I_add, mul_L, L_mul, I_mul, sub_L, L_sub, I_sub, div_L, rem_L]); omega))) ?_
  intro U1 hU1
  refine ⟨tix_I rfl (by show _ < 8; omega) (by decide), ?_⟩
  have F1 : Tch [15, 16] [241, 242] T U1 := by rw [hU1]; exact (Tch.refl T).ss (by decide) _
  have a1 : ∀ j, U1.a j = T.a j := fun j => by rw [hU1]; rfl
  rw [a1, Y.mn s hs]
  by_cases h12 : t.mn s = 12
  · rw [if_pos h12] at h
    refine brT (by rw [h12]; rfl) ?_
    intro U2 hU2
    have F2 : Tch [15, 16] [241, 242] T U2 := by rw [hU2]; exact F1.ss (by decide) _
    refine h U2 F2 ⟨?_, ?_, (F2.s _ (by decide)).trans Y.cr, by rw [hU2]; rfl, by rw [hU2, hU1]; rfl, (F2.s _ (by decide)).trans Y.rd, Y.b, Y.rb, Y.cb⟩
    · intro s' hs'; rw [hU2]; show U1.a 16 s' = _; rw [a1]; exact Y.mn s' hs'
    · intro s' k' hs' hk'; rw [hU2]; show U1.a 15 _ = _; rw [a1]; exact Y.sh s' k' hs' hk'
  · rw [if_neg h12] at h
    refine brF (fun hh => h12 ((eq_L 12 (by decide) (by omega)).1 hh)) ?_
    refine ⟨tix_I rfl (by show _ < 8; omega) (by decide), ?_⟩
    (try simp (disch := omega) only [L_le, le_L, L_lt, lt_L, eq_L, L_eq, I_le, I_lt, I_eq, I_ni, add_L, L_add, I_add, mul_L, L_mul, I_mul, sub_L, L_sub, I_sub, div_L, rem_L])
    refine ⟨tix_I rfl (by show _ < 112; omega) (by decide), ?_⟩
    intro U2 hU2
    refine ⟨tix_I rfl (by show _ < 8; omega) (by decide), tix_I rfl (by show _ < 8; omega) (by decide), ?_⟩
    have e16 : U2.a 16 s = I (t.mn s) := by rw [hU2, sa_off _ (by decide), a1]; exact Y.mn s hs
    rw [e16]
    intro U3 hU3
    have F3 : Tch [15, 16] [241, 242] T U3 := by rw [hU3, hU2]; exact (F1.sa (by decide) _ _).sa (by decide) _ _
    have b15 : U3.a 15 = updN (T.a 15) (14 * s + t.mn s) v := by rw [hU3, sa_off _ (by decide), hU2, sa_at, a1]
    have b16 : U3.a 16 = updN (T.a 16) s (I (t.mn s + 1)) := by
      rw [hU3, sa_at, hU2, sa_off _ (by decide), a1]
      congr 1
      exact I_add _ 1
    refine h U3 F3 ⟨fun s' hs' => ?_, fun s' k' hs' hk' => ?_, (F3.s _ (by decide)).trans Y.cr, by rw [F3.s 241 |> fun _ => show U3.s 241 = T.s 241 by rw [hU3, hU2, hU1]; rfl]; exact Y.mu, by rw [hU3, hU2, hU1]; rfl, (F3.s _ (by decide)).trans Y.rd, fun s' => ?_, Y.rb, Y.cb⟩
    · rw [b16]
      show _ = I (updN t.mn s (t.mn s + 1) s')
      by_cases e : s' = s
      · rw [e, updN_same, updN_same]
      · rw [updN_ne _ _ e, updN_ne _ _ e]; exact Y.mn s' hs'
    · have hk9 : k' < updN t.mn s (t.mn s + 1) s' := hk'
      rw [b15]
      show _ = updN t.sh s (updN (t.sh s) (t.mn s) v) s' k'
      have hb' := Y.b s'
      by_cases e : s' = s
      · rw [e, updN_same] at hk9
        rw [e, updN_same]
        by_cases e2 : k' = t.mn s
        · rw [e2, updN_same, updN_same]
        · rw [updN_ne _ _ (by omega), updN_ne _ _ e2]; exact Y.sh s k' hs (by omega)
      · rw [updN_ne _ _ e] at hk9
        rw [updN_ne _ _ (by omega), updN_ne _ _ e]; exact Y.sh s' k' hs' hk9
    · show updN t.mn s (t.mn s + 1) s' ≤ 12
      by_cases e : s' = s
      · rw [e, updN_same]; omega
      · rw [updN_ne _ _ e]; exact Y.b s'

theorem Gv.shRow_congr {p : Nat} {f g : Nat → Int32} (h : ∀ a, 1 ≤ a → a ≤ G.kn p → f a = g a) : G.shRow p f = G.shRow p g := by
  funext o
  unfold Gv.shRow
  by_cases hc : 8 ≤ o ∧ G.oc p o ∧ G.ins (G.sy p (o / 8)) ≤ o % 8
  · rw [if_pos hc, if_pos hc, h (o / 8) (by omega) hc.2.1.2.1]
  · rw [if_neg hc, if_neg hc]
theorem Gv.shOf_congr {s : Nat} {f g : Nat → Int32} : ∀ n, (∀ o, o < G.ins s + n → f o = g o) → G.shOf s f n = G.shOf s g n
  | 0, _ => rfl
  | n + 1, h => by
    unfold Gv.shOf
    rw [Gv.shOf_congr n (fun o ho => h o (by omega)), h (G.ins s + n) (by omega)]

theorem pt_shadesBy (W : G.WF) (g : TG (T.a 1) G) (Y : TwY T t r) (hr : 1 ≤ r) {p : Nat} (hp : p < G.nP) {ch : Nat → Nat} (hch : ∀ a, 1 ≤ a → a ≤ G.kn p → T.a 18 a = I (ch a) ∧ ch a < t.mn (G.sy p a)) {Q : TS → Prop}
    (h : ∀ U, Tch [6, 15, 16] [240, 241, 242] T U → TwY U (G.shBy p r (fun a => t.sh (G.sy p a) (ch a)) t) r → Q U) : wp_X1_shadesBy (I p) T Q := by
  have hP := W.nP
  have hS := W.nS
  have hkn := W.kn p hp
  unfold wp_X1_shadesBy
  refine pt_laysRules W g rfl hp ?_
  generalize hf : (fun a => t.sh (G.sy p a) (ch a)) = f at h
  have hT1 : ∀ o, o < 32 → (T.wa 6 (mixN 32 (G.ask p) (T.a 6))).a 6 o = G.ask p o := fun o ho => by
    show mixN 32 (G.ask p) (T.a 6) o = _
    simp [mixN, ho]
  have FT1 : Tch [6] [] T (T.wa 6 (mixN 32 (G.ask p) (T.a 6))) := (Tch.refl T).wa (by decide) _
  generalize T.wa 6 (mixN 32 (G.ask p) (T.a 6)) = T1 at *
  refine tlp_cnt (G.kn p) (fun k q U => q = I (1 + k) ∧ Tch [6] [] T U ∧ ∀ o, o < 32 → U.a 6 o = if o / 8 < 1 + k then G.shRow p f o else G.ask p o) ⟨rfl, FT1, fun o ho => ?_⟩ ?_
  · rw [hT1 o ho]
    by_cases h8 : o / 8 < 1 + 0
    · rw [if_pos h8]
      unfold Gv.shRow
      rw [if_neg (by omega)]
    · rw [if_neg h8]
  intro k q U K hk hh hK
  obtain ⟨hq, F, i1⟩ := hh
  have gU : TG (U.a 1) G := by rw [F.a 1 (by decide)]; exact g
  rw [hq]
  (try simp (disch := omega) only [L_le, le_L, L_lt, lt_L, eq_L, L_eq, I_le, I_lt, I_eq, I_ni, add_L, L_add, I_add, mul_L, L_mul, I_mul, sub_L, L_sub, I_sub, div_L, rem_L])
  refine ⟨tix_I rfl (by show _ < 3816; omega) (by decide), ?_⟩
  rw [gU.kn p hp]
  by_cases ek : k = G.kn p
  · subst ek
    refine brT ((I_lt (by omega) (by omega)).2 (by omega)) ?_
    have e6 : ∀ o, o < 32 → U.a 6 o = G.shRow p f o := fun o ho => by
      rw [i1 o ho]
      by_cases h8 : o / 8 < 1 + G.kn p
      · rw [if_pos h8]
      · rw [if_neg h8]
        unfold Gv.shRow
        rw [if_neg (fun hh => h8 (by have := hh.2.1.2.1; omega))]
    refine pt_closes ?_
    refine pt_firstSelf ?_
    have c6 : ∀ o, o < 32 → (U.wa 6 (clo (U.a 6))).a 6 o = clo (G.shRow p f) o := fun o ho => clo_congr e6 ho
    have ef : fself ((U.wa 6 (clo (U.a 6))).a 6) = fself (clo (G.shRow p f)) := fself_congr c6
    rw [ef]
    have FV : Tch [6] [] T (U.wa 6 (clo (U.a 6))) := F.wa (by decide) _
    generalize U.wa 6 (clo (U.a 6)) = V at *
    have YV := Y.keep' FV (by decide) (by decide) (by decide)
    unfold Gv.shBy at h
    refine ⟨fun _ W' => Tch [] [240] V W' ∧ TwY W' (t.crc r (fself (clo (G.shRow p f))).isSome) r, ?_, ?_⟩
    · unfold SSt.crc
      by_cases hc : t.cr = 0 ∧ (fself (clo (G.shRow p f))).isSome = true
      · rw [if_pos hc]
        refine brT ⟨fun hh => ?_, by rw [YV.cr, hc.1]; rfl⟩ ?_
        · cases hs : fself (clo (G.shRow p f)) with
          | none => rw [hs] at hc; exact absurd hc.2 (by simp)
          | some o =>
            rw [hs] at hh
            have := (fstN_some.1 hs).1
            exact absurd hh (I_neg1_ne (by omega))
        · intro V2 hV2
          rw [YV.rd] at hV2
          have F2 : Tch [] [240] V V2 := by rw [hV2]; exact (Tch.refl V).ss (by decide) _
          exact ⟨F2, by rw [F2.a 16 (by decide)]; exact YV.mn, by rw [F2.a 15 (by decide)]; exact YV.sh, by rw [hV2]; rfl, (F2.s _ (by decide)).trans YV.mu, (F2.s _ (by decide)).trans YV.nw, (F2.s _ (by decide)).trans YV.rd, YV.b, YV.rb, YV.rb⟩
      · rw [if_neg hc]
        refine brF (fun hh => hc ⟨?_, ?_⟩) ⟨Tch.refl V, YV⟩
        · have := YV.cb
          rw [YV.cr] at hh
          exact (I0 (by omega)).1 hh.2
        · cases hs : fself (clo (G.shRow p f)) with
          | none => rw [hs] at hh; exact absurd rfl hh.1
          | some o => rfl
    intro _ V2 hh
    obtain ⟨F2, Y2⟩ := hh
    have g2 : TG (V2.a 1) G := by rw [F2.a 1 (by decide), FV.a 1 (by decide)]; exact g
    have hs0 := W.sy p 0 hp (Nat.zero_le _)
    have hi4 := W.ins _ hs0
    have hic := W.ic _ hs0
    have hc8 := W.cnt8 hs0
    have hcn := W.cnt _ hs0
    (try simp (disch := omega) only [L_le, le_L, L_lt, lt_L, eq_L, L_eq, I_le, I_lt, I_eq, I_ni, add_L, L_add, I_add, mul_L, L_mul, I_mul, sub_L, L_sub, I_sub, div_L, rem_L])
    refine ⟨tix_I rfl (by show _ < 3816; omega) (by decide), ?_⟩
    rw [g2.left p hp]
    (try simp (disch := omega) only [L_le, le_L, L_lt, lt_L, eq_L, L_eq, I_le, I_lt, I_eq, I_ni, add_L, L_add, I_add, mul_L, L_mul, I_mul, sub_L, L_sub, I_sub, div_L, rem_L])
    refine ⟨tix_I rfl (by show _ < 3816; omega) (by decide), ?_⟩
    rw [g2.ins _ hs0]
    refine tlp_cnt (G.cnt (G.sy p 0) - G.ins (G.sy p 0)) (fun a q W' => W' = V2 ∧ q = (G.shOf (G.sy p 0) (clo (G.shRow p f)) a, I (G.ins (G.sy p 0) + a))) ⟨rfl, rfl⟩ ?_
    intro a q W' K2 ha hh hK2
    obtain ⟨hW', hq2⟩ := hh
    rw [hW', hq2]
    refine pt_attributes W g2 rfl hs0 ?_
    by_cases ea : a = G.cnt (G.sy p 0) - G.ins (G.sy p 0)
    · refine brT ((I_le (by omega) (by omega)).2 (by omega)) ?_
      rw [ea]
      refine pt_keepsShade Y2 (by omega) ?_
      intro V3 F3 Y3
      refine h V3 ?_ Y3
      exact Tch.trans (A := [6, 15, 16]) (S := [240, 241, 242]) ⟨fun j hj => FV.a j (fun hh => hj (by rw [List.mem_singleton.1 hh]; decide)), fun j _ => FV.s j (by simp), FV.w, FV.l⟩ (Tch.trans ⟨fun j _ => F2.a j (by simp), fun j hj => F2.s j (fun hh => hj (by rw [List.mem_singleton.1 hh]; decide)), F2.w, F2.l⟩ ⟨fun j hj => F3.a j (fun hh => hj (by revert hh; simp; omega)), fun j hj => F3.s j (fun hh => hj (by revert hh; simp; omega)), F3.w, F3.l⟩)
    · refine brF (fun hh => by have := (I_le (by omega) (by omega)).1 hh; omega) ?_
      refine ⟨tix_I rfl (by show _ < 32; omega) (by decide), ?_⟩
      rw [I_ni (show G.ins (G.sy p 0) + a < 2147483648 by omega)]
      refine ⟨tix_I rfl (by show _ < 3816; omega) (by decide), tix_I rfl (by show _ < 3816; omega) (by decide), ?_⟩
      rw [g2.ins _ hs0, F2.a 6 (by decide), c6 _ (by omega)]
      have e1 : I (G.ins (G.sy p 0) + a) - I (G.ins (G.sy p 0)) = I a := by rw [I_sub (by omega)]; congr 1; omega
      have e2 : (4 : Int32) * I a = I (4 * a) := L_mul 4 a
      have e3 : I (G.ins (G.sy p 0) + a) + 1 = I (G.ins (G.sy p 0) + (a + 1)) := by rw [show I (G.ins (G.sy p 0) + a) + 1 = I (G.ins (G.sy p 0) + a + 1) from I_add _ 1, Nat.add_assoc]
      rw [e1, e2, e3]
      exact hK2 _ _ (by omega) ⟨rfl, rfl⟩
  -- a child
  have hk' : k < G.kn p := by omega
  have hs1 := W.sy p (1 + k) hp (by omega)
  have hi4 := W.ins _ hs1
  have hic := W.ic _ hs1
  have hc8 := W.cnt8 hs1
  obtain ⟨ch1, ch2⟩ := hch (1 + k) (by omega) (by omega)
  have hb := Y.b (G.sy p (1 + k))
  refine brF (fun hh => by have := (I_lt (by omega) (by omega)).1 hh; omega) ?_
  refine pt_symbolAt (.inl rfl) W gU rfl hp (by omega) ?_
  refine ⟨tix_I rfl (by show _ < 4; omega) (by decide), ?_⟩
  rw [F.a 18 (by decide), ch1]
  (try simp (disch := omega) only [L_le, le_L, L_lt, lt_L, eq_L, L_eq, I_le, I_lt, I_eq, I_ni, add_L, L_add, I_add, mul_L, L_mul, I_mul, sub_L, L_sub, I_sub, div_L, rem_L])
  refine ⟨tix_I rfl (by show _ < 112; omega) (by decide), tix_I rfl (by show _ < 3816; omega) (by decide), ?_⟩
  rw [gU.ins _ hs1, F.a 15 (by decide), Y.sh _ _ (by omega) ch2]
  have ef : f (1 + k) = t.sh (G.sy p (1 + k)) (ch (1 + k)) := by rw [← hf]
  refine tlp_cnt (G.cnt (G.sy p (1 + k)) - G.ins (G.sy p (1 + k))) (fun a q V => q = I (G.ins (G.sy p (1 + k)) + a) ∧ Tch [6] [] U V ∧ ∀ o, o < 32 → V.a 6 o = if o / 8 < 1 + k ∨ (o / 8 = 1 + k ∧ o % 8 < G.ins (G.sy p (1 + k)) + a) then G.shRow p f o else G.ask p o) ⟨rfl, Tch.refl U, fun o ho => ?_⟩ ?_
  · rw [i1 o ho]
    by_cases h1 : o / 8 < 1 + k
    · rw [if_pos h1, if_pos (.inl h1)]
    · rw [if_neg h1]
      by_cases h2 : o / 8 = 1 + k ∧ o % 8 < G.ins (G.sy p (1 + k)) + 0
      · rw [if_pos (.inr h2)]
        unfold Gv.shRow
        rw [if_neg (fun hh => by have h9 := hh.2.2; rw [h2.1] at h9; omega)]
      · rw [if_neg (fun hh => hh.elim h1 h2)]
  intro a q V K2 ha hh hK2
  obtain ⟨hq2, FV, j1⟩ := hh
  have gV : TG (V.a 1) G := by rw [FV.a 1 (by decide)]; exact gU
  rw [hq2]
  refine pt_attributes W gV rfl hs1 ?_
  by_cases ea : a = G.cnt (G.sy p (1 + k)) - G.ins (G.sy p (1 + k))
  · refine brT ((I_le (by omega) (by omega)).2 (by omega)) ?_
    refine hK _ _ hk' ⟨by rw [Nat.add_assoc], F.trans FV, fun o ho => ?_⟩
    rw [j1 o ho]
    by_cases h1 : o / 8 < 1 + (k + 1)
    · rw [if_pos h1]
      by_cases h2 : o / 8 < 1 + k ∨ (o / 8 = 1 + k ∧ o % 8 < G.ins (G.sy p (1 + k)) + a)
      · rw [if_pos h2]
      · rw [if_neg h2]
        have h3 : o / 8 = 1 + k := by omega
        unfold Gv.shRow
        rw [if_neg (fun hh => h2 (.inr ⟨h3, by have h9 := hh.2.1.2.2; rw [h3] at h9; omega⟩))]
    · rw [if_neg h1, if_neg (fun hh => hh.elim (fun x => by omega) (fun x => by omega))]
  · have ha' : a < G.cnt (G.sy p (1 + k)) - G.ins (G.sy p (1 + k)) := by omega
    refine brF (fun hh => by have := (I_le (by omega) (by omega)).1 hh; omega) ?_
    (try simp (disch := omega) only [L_le, le_L, L_lt, lt_L, eq_L, L_eq, I_le, I_lt, I_eq, I_ni, add_L, L_add, I_add, mul_L, L_mul, I_mul, sub_L, L_sub, I_sub, div_L, rem_L])
    refine ⟨tix_I rfl (by show _ < 32; omega) (by decide), tix_I rfl (by show _ < 3816; omega) (by decide), tix_I rfl (by show _ < 32; omega) (by decide), ?_⟩
    rw [gV.ins _ hs1]
    generalize hO : 8 * (1 + k) + (G.ins (G.sy p (1 + k)) + a) = O
    have d1 : O / 8 = 1 + k := by omega
    have d2 : O % 8 = G.ins (G.sy p (1 + k)) + a := by omega
    have h6 : V.a 6 O = G.ask p O := by
      rw [j1 O (by omega), if_neg (fun hh => hh.elim (fun x => by omega) (fun x => by omega))]
    rw [h6]
    have e1 : I (G.ins (G.sy p (1 + k)) + a) - I (G.ins (G.sy p (1 + k))) = I a := by rw [I_sub (by omega)]; congr 1; omega
    have e2 : (4 : Int32) * I a = I (4 * a) := L_mul 4 a
    rw [e1, e2]
    intro V2 hV2
    have b6 : V2.a 6 = updN (V.a 6) O (G.shRow p f O) := by
      rw [hV2, sa_at]
      congr 1
      unfold Gv.shRow
      rw [if_pos ⟨by omega, ⟨by omega, by omega, by rw [d1, d2]; omega⟩, by rw [d1, d2]; omega⟩, d1, d2, ef, show G.ins (G.sy p (1 + k)) + a - G.ins (G.sy p (1 + k)) = a by omega]
    refine hK2 _ _ ha' ⟨by rw [Nat.add_assoc], by rw [hV2]; exact FV.sa (by decide) _ _, fun o ho => ?_⟩
    rw [b6]
    by_cases eo : o = O
    · rw [eo, updN_same, if_pos (.inr ⟨d1, by omega⟩)]
    · rw [updN_ne _ _ eo, j1 o ho]
      by_cases h2 : o / 8 < 1 + k ∨ (o / 8 = 1 + k ∧ o % 8 < G.ins (G.sy p (1 + k)) + a)
      · rw [if_pos h2, if_pos (h2.elim .inl (fun x => .inr ⟨x.1, by omega⟩))]
      · rw [if_neg h2, if_neg (fun hh => h2 (hh.elim .inl (fun x => .inr ⟨x.1, by omega⟩)))]
end
