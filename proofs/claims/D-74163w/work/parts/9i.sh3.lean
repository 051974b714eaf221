/-! plain: sh3 -/
set_option maxRecDepth 100000
section
variable {G : Gv} {T U : TS} {t : SSt} {r : Nat} {X : AX} {x : Int32}

theorem pt_chooses (W : G.WF) (hr : 1 ≤ r) {p : Nat} (hp : p < G.nP) (ah : Nat → Nat) : ∀ (D f a0 : Nat) (ch : Nat → Nat) (t : SSt) (T : TS) (Q : TS → Prop), D < f → a0 + D = G.kn p + 1 → 1 ≤ a0 → TG (T.a 1) G → TwY T t r → (∀ s, s < G.nS → T.a 17 s = I (ah s)) → (∀ s, ah s ≤ t.mn s) → (∀ a, 1 ≤ a → a < a0 → T.a 18 a = I (ch a) ∧ ch a < ah (G.sy p a)) →
    (∀ U, Tch [6, 15, 16, 18] [240, 241, 242] T U → (∀ a, a < a0 → U.a 18 a = T.a 18 a) → TwY U (G.shCh p r ah D a0 ch t) r → Q U) → wp_X1_chooses f (I p) (I a0) T Q
  | 0, f, a0, ch, t, T, Q, hf, he, h1, g, Y, h17, hah, h18, h => by
    obtain ⟨f, rfl⟩ : ∃ f', f = f' + 1 := ⟨f - 1, by omega⟩
    have hP := W.nP
    have hkn := W.kn p hp
    unfold wp_X1_chooses
    (try simp (disch := omega) only [L_le, le_L, L_lt, lt_L, eq_L, L_eq, I_le, I_lt, I_eq, I_ni, add_L, L_add, I_add, mul_L, L_mul, I_mul, sub_L, L_sub, I_sub, div_L, rem_L])
    refine ⟨tix_I rfl (by show _ < 3816; omega) (by decide), ?_⟩
    rw [g.kn p hp]
    refine brF (fun hh => by have := (I_le (by omega) (by omega)).1 hh; omega) ?_
    refine pt_shadesBy (ch := ch) W g Y hr hp (fun a b c => ⟨(h18 a b (by omega)).1, Nat.lt_of_lt_of_le (h18 a b (by omega)).2 (hah _)⟩) ?_
    intro U F YU
    refine h U ⟨fun j hj => F.a j (fun hh => hj (by revert hh; simp; omega)), F.s, F.w, F.l⟩ (fun a _ => by rw [F.a 18 (by decide)]) YU
  | D + 1, f, a0, ch, t, T, Q, hf, he, h1, g, Y, h17, hah, h18, h => by
    obtain ⟨f, rfl⟩ : ∃ f', f = f' + 1 := ⟨f - 1, by omega⟩
    have hP := W.nP
    have hS := W.nS
    have hkn := W.kn p hp
    have hs := W.sy p a0 hp (by omega)
    have hb := Y.b (G.sy p a0)
    have ha12 := hah (G.sy p a0)
    unfold wp_X1_chooses
    (try simp (disch := omega) only [L_le, le_L, L_lt, lt_L, eq_L, L_eq, I_le, I_lt, I_eq, I_ni, add_L, L_add, I_add, mul_L, L_mul, I_mul, sub_L, L_sub, I_sub, div_L, rem_L])
    refine ⟨tix_I rfl (by show _ < 3816; omega) (by decide), ?_⟩
    rw [g.kn p hp]
    refine brT ((I_le (by omega) (by omega)).2 (by omega)) ?_
    refine pt_symbolAt (.inl rfl) W g rfl hp (by omega) ?_
    refine tlp_cnt (ah (G.sy p a0)) (fun k q U => q = I k ∧ Tch [6, 15, 16, 18] [240, 241, 242] T U ∧ (∀ a, a < a0 → U.a 18 a = T.a 18 a) ∧ TwY U (itN (fun k t' => G.shCh p r ah D (a0 + 1) (updN ch a0 k) t') k t) r) ⟨rfl, Tch.refl T, fun _ _ => rfl, Y⟩ ?_
    intro k q U K hk hh hK
    obtain ⟨hq, F, i1, YU⟩ := hh
    have g' : TG (U.a 1) G := by rw [F.a 1 (by decide)]; exact g
    have h17' : ∀ s, s < G.nS → U.a 17 s = I (ah s) := by rw [F.a 17 (by decide)]; exact h17
    rw [hq]
    refine ⟨tix_I rfl (by show _ < 8; omega) (by decide), ?_⟩
    rw [I_ni (show G.sy p a0 < 2147483648 by omega), h17' _ hs]
    by_cases ek : k = ah (G.sy p a0)
    · subst ek
      exact brT ((I_le (by omega) (by omega)).2 (Nat.le_refl _)) (h U F i1 YU)
    refine brF (fun hh => by have := (I_le (by omega) (by omega)).1 hh; omega) ?_
    refine ⟨tix_I rfl (by show _ < 4; omega) (by decide), ?_⟩
    intro V hV
    have FV : Tch [6, 15, 16, 18] [240, 241, 242] T V := by rw [hV]; exact F.sa (by decide) _ _
    have FUV : Tch [18] [] U V := by rw [hV]; exact (Tch.refl U).sa (by decide) _ _
    have b18 : V.a 18 = updN (U.a 18) a0 (I k) := by rw [hV, sa_at]
    have up := itN_up (f := fun k t' => G.shCh p r ah D (a0 + 1) (updN ch a0 k) t') (fun k t' => Gv.shCh_up p r ah D (a0 + 1) (updN ch a0 k) t') k t
    refine pt_chooses W hr hp ah D f (a0 + 1) (updN ch a0 k) _ V _ (by omega) (by omega) (by omega) (by rw [FUV.a 1 (by decide)]; exact g') (YU.keep' FUV (by decide) (by decide) (by decide)) (by rw [FUV.a 17 (by decide)]; exact h17') (fun s => Nat.le_trans (hah s) (up.mn s)) (fun a c1 c2 => ?_) ?_
    · rw [b18]
      by_cases e : a = a0
      · rw [e, updN_same, updN_same]; exact ⟨rfl, by omega⟩
      · rw [updN_ne _ _ e, updN_ne _ _ e, i1 a (by omega)]; exact h18 a c1 (by omega)
    · intro V2 F2 i2 Y2
      rw [show I k + 1 = I (k + 1) from I_add _ 1]
      refine hK _ _ (by omega) ⟨rfl, FV.trans F2, fun a ha => ?_, Y2⟩
      rw [i2 a (by omega), b18, updN_ne _ _ (by omega)]; exact i1 a ha

theorem pt_round (W : G.WF) (g : TG (T.a 1) G) (Y : TwY (T.ss 242 0) (SSt.mk t.mn t.sh t.cr t.mu false) r) (hr : r < 1000) {Q : TS → Prop} (h : ∀ U, Tch [6, 15, 16, 17, 18] [239, 240, 241, 242] T U → TwY U (G.shRd (r + 1) t) (r + 1) → Q U) : wp_X1_round T Q := by
  have hS := W.nS
  have hP := W.nP
  intro T1 h1 T2 h2
  have rd : T.s 239 = I r := Y.rd
  rw [rd, show I r + 1 = I (r + 1) from I_add _ 1] at h1
  have F2 : Tch [6, 15, 16, 17, 18] [239, 240, 241, 242] T T2 := by rw [h2, h1]; exact ((Tch.refl T).ss (by decide) _).ss (by decide) _
  have Y2 : TwY T2 (SSt.mk t.mn t.sh t.cr t.mu false) (r + 1) := by
    rw [h2, h1]
    exact ⟨Y.mn, Y.sh, Y.cr, Y.mu, rfl, rfl, Y.b, hr, Y.cb⟩
  refine tlp_cnt G.nS (fun s q U => q = I s ∧ Tch [17] [] T2 U ∧ ∀ s', s' < s → U.a 17 s' = I (t.mn s')) ⟨rfl, Tch.refl _, fun s hs => absurd hs (by omega)⟩ ?_
  intro s q U K hs hh hK
  obtain ⟨hq, F, i1⟩ := hh
  have gU : TG (U.a 1) G := by rw [F.a 1 (by decide), F2.a 1 (by decide)]; exact g
  rw [hq]
  refine ⟨tix_I (k := 0) rfl (by decide) (by decide), ?_⟩
  rw [show ni 0 = 0 from rfl, gU.nS]
  by_cases es : s = G.nS
  rotate_left
  · refine brF (fun hh => by have := (I_le (by omega) (by omega)).1 hh; omega) ⟨tix_I rfl (by show _ < 8; omega) (by decide), tix_I rfl (by show _ < 8; omega) (by decide), ?_⟩
    rw [I_ni (by omega), F.a 16 (by decide), Y2.mn s (by omega)]
    intro V hV
    rw [show I s + 1 = I (s + 1) from I_add _ 1]
    refine hK _ _ (by omega) ⟨rfl, by rw [hV]; exact F.sa (by decide) _ _, fun s' hs' => ?_⟩
    rw [hV, sa_at]
    by_cases e : s' = s
    · rw [e, updN_same]; rfl
    · rw [updN_ne _ _ e]; exact i1 s' (by omega)
  subst es
  refine brT ((I_le (by omega) (by omega)).2 (Nat.le_refl _)) ?_
  have YU := Y2.keep' F (by decide) (by decide) (by decide)
  refine tlp_cnt G.nP (fun p q V => q = I p ∧ Tch [6, 15, 16, 18] [240, 241, 242] U V ∧ TwY V (itN (fun p t' => if (G.kn p = 0 ↔ r + 1 = 1) then G.shCh p (r + 1) t.mn (G.kn p) 1 (fun _ => 0) t' else t') p (SSt.mk t.mn t.sh t.cr t.mu false)) (r + 1) ∧ ∀ s, t.mn s ≤ (itN (fun p t' => if (G.kn p = 0 ↔ r + 1 = 1) then G.shCh p (r + 1) t.mn (G.kn p) 1 (fun _ => 0) t' else t') p (SSt.mk t.mn t.sh t.cr t.mu false)).mn s) ⟨rfl, Tch.refl U, YU, fun s => Nat.le_refl _⟩ ?_
  intro p q V K2 hp hh hK2
  obtain ⟨hq2, FV, YV, upV⟩ := hh
  have gV : TG (V.a 1) G := by rw [FV.a 1 (by decide)]; exact gU
  rw [hq2]
  refine ⟨tix_I (k := 1) rfl (by decide) (by decide), ?_⟩
  rw [show ni 1 = 1 from rfl, gV.nP]
  by_cases ep : p = G.nP
  · subst ep
    refine brT ((I_le (by omega) (by omega)).2 (Nat.le_refl _)) (h V ?_ YV)
    exact F2.trans (Tch.trans (A := [6, 15, 16, 17, 18]) (S := [239, 240, 241, 242]) ⟨fun j hj => F.a j (fun hh => hj (by rw [List.mem_singleton.1 hh]; decide)), fun j _ => F.s j (by simp), F.w, F.l⟩ ⟨fun j hj => FV.a j (fun hh => hj (by revert hh; simp; omega)), fun j hj => FV.s j (fun hh => hj (by revert hh; simp; omega)), FV.w, FV.l⟩)
  have hp' : p < G.nP := by omega
  have hkn := W.kn p hp'
  refine brF (fun hh => by have := (I_le (by omega) (by omega)).1 hh; omega) ?_
  (try simp (disch := omega) only [L_le, le_L, L_lt, lt_L, eq_L, L_eq, I_le, I_lt, I_eq, I_ni, add_L, L_add, I_add, mul_L, L_mul, I_mul, sub_L, L_sub, I_sub, div_L, rem_L])
  refine ⟨tix_I rfl (by show _ < 3816; omega) (by decide), ?_⟩
  rw [gV.kn p hp', YV.rd]
  intro m9 e9 m11 e11
  have nxt : ∀ V', TwY V' (if (G.kn p = 0 ↔ r + 1 = 1) then G.shCh p (r + 1) t.mn (G.kn p) 1 (fun _ => 0) (itN (fun p t' => if (G.kn p = 0 ↔ r + 1 = 1) then G.shCh p (r + 1) t.mn (G.kn p) 1 (fun _ => 0) t' else t') p (SSt.mk t.mn t.sh t.cr t.mu false)) else (itN (fun p t' => if (G.kn p = 0 ↔ r + 1 = 1) then G.shCh p (r + 1) t.mn (G.kn p) 1 (fun _ => 0) t' else t') p (SSt.mk t.mn t.sh t.cr t.mu false))) (r + 1) → Tch [6, 15, 16, 18] [240, 241, 242] U V' → K2 (I (p + 1)) V' := by
    intro V' Y' F'
    refine hK2 _ _ hp' ⟨rfl, F', Y', fun s => Nat.le_trans (upV s) ?_⟩
    show _ ≤ (if (G.kn p = 0 ↔ r + 1 = 1) then _ else _ : SSt).mn s
    split
    · exact (Gv.shCh_up _ _ _ _ _ _ _).mn s
    · exact Nat.le_refl _
  have a9 : m9 = if G.kn p = 0 then 1 else 0 := by
    rw [e9]
    by_cases hz : G.kn p = 0
    · rw [if_pos hz, if_pos (show I (G.kn p) = 0 by rw [hz]; rfl)]
    · rw [if_neg hz, if_neg (fun hh => hz (by first | exact (I0 (by omega)).1 hh | exact hh))]
  have a11 : m11 = if r + 1 = 1 then 1 else 0 := by
    rw [e11]
    by_cases hz : r + 1 = 1
    · rw [if_pos hz, if_pos (by rw [hz]; first | rfl | skip)]
    · rw [if_neg hz, if_neg (fun hh => hz (by first | exact (eq_L 1 (by decide) (by omega)).1 hh | exact hh))]
  have hiff : m9 = m11 ↔ (G.kn p = 0 ↔ r + 1 = 1) := by
    rw [a9, a11]
    by_cases hz : G.kn p = 0 <;> by_cases hz2 : r + 1 = 1
    · rw [if_pos hz, if_pos hz2]; exact ⟨fun _ => ⟨fun _ => hz2, fun _ => hz⟩, fun _ => rfl⟩
    · rw [if_pos hz, if_neg hz2]; exact ⟨fun hh => absurd hh (by decide), fun hh => absurd (hh.1 hz) hz2⟩
    · rw [if_neg hz, if_pos hz2]; exact ⟨fun hh => absurd hh (by decide), fun hh => absurd (hh.2 hz2) hz⟩
    · rw [if_neg hz, if_neg hz2]; exact ⟨fun _ => ⟨fun a => absurd a hz, fun a => absurd a hz2⟩, fun _ => rfl⟩
  by_cases hc : (G.kn p = 0 ↔ r + 1 = 1)
  · rw [if_pos hc] at nxt
    refine brT (hiff.2 hc) ?_
    refine pt_chooses W (by omega) hp' t.mn (G.kn p) 6 1 (fun _ => 0) _ V _ (by omega) (by omega) (by omega) gV YV (fun s hs => by rw [FV.a 17 (by decide)]; exact i1 s hs) upV (fun a h1 h2 => absurd h1 (by omega)) ?_
    intro V' F' _ Y'
    exact nxt V' Y' (FV.trans F')
  · rw [if_neg hc] at nxt
    exact brF (fun hh => hc (hiff.1 hh)) (nxt V YV FV)

theorem pt_seeks (W : G.WF) (g : TG (T.a 1) G) (c : Bool) {Q : TS → Prop} (h : ∀ U, Tch [6, 15, 16, 17, 18] [239, 240, 241, 242] T U → TwY U (G.shK (G.shE c)) (G.shE c) → 1 ≤ G.shE c → G.shE c ≤ 97 → Q U) : wp_X1_seeks (if c then 1 else 0) T Q := by
  obtain ⟨k0, hk0, IE⟩ := Gv.shE_ex W c
  rw [Gv.shE_eq IE] at h
  unfold wp_X1_seeks
  refine tlp_cnt 8 (fun s q U => q = I s ∧ Tch [6, 15, 16, 17, 18] [239, 240, 241, 242] T U ∧ ∀ s', s' < s → U.a 16 s' = 0) ⟨rfl, Tch.refl T, fun s hs => absurd hs (by omega)⟩ ?_
  intro s q U K hs hh hK
  obtain ⟨hq, F, i1⟩ := hh
  rw [hq]
  by_cases es : s = 8
  rotate_left
  · refine brF (fun hh => by have h9 : 8 ≤ s := (L_le 8 (by decide) (by omega)).1 hh; omega) ⟨tix_I rfl (by show _ < 8; omega) (by decide), ?_⟩
    rw [I_ni (by omega)]
    intro V hV
    rw [show I s + 1 = I (s + 1) from I_add _ 1]
    refine hK _ _ (by omega) ⟨rfl, by rw [hV]; exact F.sa (by decide) _ _, fun s' hs' => ?_⟩
    rw [hV, sa_at]
    by_cases e : s' = s
    · rw [e, updN_same]
    · rw [updN_ne _ _ e]; exact i1 s' (by omega)
  subst es
  refine brT (by decide) ?_
  intro U1 h1 U2 h2 U3 h3
  have F3 : Tch [6, 15, 16, 17, 18] [239, 240, 241, 242] T U3 := by rw [h3, h2, h1]; exact ((F.ss (by decide) _).ss (by decide) _).ss (by decide) _
  have Y3 : TwY (U3.ss 242 0) (SSt.mk (G.shK 0).mn (G.shK 0).sh (G.shK 0).cr (G.shK 0).mu false) 0 := by
    rw [h3, h2, h1]
    exact ⟨i1, fun s k _ hk => absurd (show k < 0 from hk) (by omega), rfl, rfl, rfl, rfl, fun _ => Nat.zero_le _, by omega, by show 0 ≤ 1000; omega⟩
  refine ⟨fun n _ V => ∃ k, k + n = k0 ∧ k < k0 ∧ Tch [6, 15, 16, 17, 18] [239, 240, 241, 242] T V ∧ TwY (V.ss 242 0) (SSt.mk (G.shK k).mn (G.shK k).sh (G.shK k).cr (G.shK k).mu false) k, ⟨k0, 0, by omega, by have := IE.1; omega, F3, Y3⟩, ?_⟩
  intro n _ V hV
  obtain ⟨k, e1, e2, FV, YV⟩ := hV
  refine pt_round W (by rw [FV.a 1 (by decide)]; exact g) YV (by omega) ?_
  intro V2 F2 Y2
  have F' := FV.trans F2
  have Y2' : TwY V2 (G.shK (k + 1)) (k + 1) := Y2
  have hon : (¬ (V2.s 242 = 0) ∧ ((V2.s 241 = 0) ∧ (((if c then (1 : Int32) else 0) = 0) ∨ (V2.s 240 ≤ 0)))) ↔ (G.shK (k + 1)).on c := by
    rw [Y2'.nw, Y2'.mu, Y2'.cr]
    unfold SSt.on
    have hcb := Y2'.cb
    have a1 : (¬ ((if (G.shK (k + 1)).nw then (1 : Int32) else 0) = 0)) ↔ (G.shK (k + 1)).nw = true := by cases (G.shK (k + 1)).nw <;> decide
    have a2 : ((if (G.shK (k + 1)).mu then (1 : Int32) else 0) = 0) ↔ (G.shK (k + 1)).mu = false := by cases (G.shK (k + 1)).mu <;> decide
    have a3 : ((if c then (1 : Int32) else 0) = 0) ↔ c = false := by cases c <;> decide
    have a4 : (I (G.shK (k + 1)).cr ≤ 0) ↔ (G.shK (k + 1)).cr = 0 := by
      rw [show (0 : Int32) = I 0 from rfl, I_le (by omega) (by omega)]; omega
    rw [a1, a2, a3, a4]
  by_cases hc : (G.shK (k + 1)).on c
  · refine brT (hon.2 hc) ?_
    have hlt : k + 1 < k0 := by
      rcases Nat.lt_or_ge (k + 1) k0 with l | l
      · exact l
      · have e : k + 1 = k0 := by omega
        rw [e] at hc
        exact absurd hc IE.2.1
    refine ⟨n - 1, by omega, k + 1, by omega, hlt, F', ?_⟩
    exact ⟨Y2'.mn, Y2'.sh, Y2'.cr, Y2'.mu, rfl, Y2'.rd, Y2'.b, Y2'.rb, Y2'.cb⟩
  · refine brF (fun hh => hc (hon.1 hh)) ?_
    have e : k + 1 = k0 := by
      rcases Nat.lt_or_ge (k + 1) k0 with l | l
      · exact absurd (IE.2.2 (k + 1) (by omega) l) hc
      · omega
    rw [e] at Y2'
    exact h V2 F' Y2' IE.1 hk0

noncomputable def qReal (X : AX) (x : Int32) : An :=
  cif (inR x 4) (match X.gr with
    | none => (-1, 2)
    | some q => if (q.1.g.shK (q.1.g.shE true)).mu then (-1, 6)
      else if x = 0 then (if (q.1.g.shK (q.1.g.shE true)).cr = 0 then 0 else 1, 0)
      else if x = 1 then (if (q.1.g.shK (q.1.g.shE true)).cr = 0 then (-1, 7) else (I (q.1.g.shK (q.1.g.shE true)).cr, 0))
      else if x = 2 then (I (q.1.g.shE true), 0) else (I (sN (q.1.g.shK (q.1.g.shE true)).mn 8), 0)) (-1, 1)
theorem pt_real (R : TwRep T X) {Q : Int32 → TS → Prop} (h : ∀ U, TwRep U (X.ws (qReal X x).2) → Q (qReal X x).1 U) : wp_X1_real x T Q := by
  unfold wp_X1_real
  refine pt_isFromR (m := 4) (by decide) (by decide) ?_
  unfold qReal at h
  by_cases hr : inR x 4
  rotate_left
  · rw [iP_neg hr]
    rw [cif_neg hr] at h
    exact brT rfl (pt_refuse R h)
  rw [iP_pos hr]
  rw [cif_pos hr] at h
  refine brF (by decide) ?_
  cases hg : X.gr with
  | none =>
    rw [hg] at h
    exact brT (R.g0 hg) (pt_refuse R h)
  | some q =>
  obtain ⟨A, ind⟩ := q
  rw [hg] at h
  dsimp only at h
  obtain ⟨W, _, _, s, g, _⟩ := R.gg hg
  refine brF (by rw [s]; decide) ?_
  refine pt_seeks W g true ?_
  intro U F Y l1 l2
  have RU := R.keep F (by decide) (by decide)
  generalize A.g.shK (A.g.shE true) = st at *
  have hcb := Y.cb
  rw [Y.mu, Y.cr, Y.rd]
  cases hmu : st.mu with
  | true =>
    rw [hmu, if_pos rfl] at h
    exact brF (by decide) (pt_refuse RU h)
  | false =>
  rw [hmu, if_neg (by decide)] at h
  refine brT rfl ?_
  have ecr : (I st.cr ≤ 0) ↔ st.cr = 0 := by rw [show (0 : Int32) = I 0 from rfl, I_le (by omega) (by omega)]; omega
  obtain ⟨j, hj, e⟩ := hr
  rcases (show j = 0 ∨ j = 1 ∨ j = 2 ∨ j = 3 by omega) with ej | ej | ej | ej <;> subst ej <;> subst e
  · rw [if_pos (show I 0 = 0 from rfl)] at h
    refine brT rfl ?_
    intro m hm
    by_cases hc : st.cr = 0
    · rw [if_pos (ecr.2 hc)] at hm
      rw [if_pos hc] at h
      rw [hm]; exact pt_gives RU h
    · rw [if_neg (fun hh => hc (ecr.1 hh))] at hm
      rw [if_neg hc] at h
      rw [hm]; exact pt_gives RU h
  · rw [if_neg (show ¬ I 1 = 0 by decide), if_pos (show I 1 = 1 from rfl)] at h
    refine brF (by decide) (brT rfl ?_)
    by_cases hc : st.cr = 0
    · rw [if_pos hc] at h
      exact brT (ecr.2 hc) (pt_refuse RU h)
    · rw [if_neg hc] at h
      exact brF (fun hh => hc (ecr.1 hh)) (pt_gives RU h)
  · rw [if_neg (show ¬ I 2 = 0 by decide), if_neg (show ¬ I 2 = 1 by decide), if_pos (show I 2 = 2 from rfl)] at h
    exact brF (by decide) (brF (by decide) (brT rfl (pt_gives RU h)))
  · rw [if_neg (show ¬ I 3 = 0 by decide), if_neg (show ¬ I 3 = 1 by decide), if_neg (show ¬ I 3 = 2 by decide)] at h
    refine brF (by decide) (brF (by decide) (brF (by decide) ?_))
    refine tlp_cnt 8 (fun k q V => V = U ∧ q = (I (sN st.mn k), I k)) ⟨rfl, rfl⟩ ?_
    intro k q V K hk hh hK
    obtain ⟨hV, hq⟩ := hh
    rw [hV, hq]
    by_cases ek : k = 8
    · subst ek
      exact brT (show (8 : Int32) ≤ I 8 by decide) (pt_gives RU h)
    · refine brF (fun hh => by have h9 : 8 ≤ k := (L_le 8 (by decide) (by omega)).1 hh; omega) ⟨tix_I rfl (by show _ < 8; omega) (by decide), ?_⟩
      rw [I_ni (by omega), Y.mn k (by omega), show I k + 1 = I (k + 1) from I_add _ 1, I_add]
      exact hK _ _ (by omega) ⟨rfl, rfl⟩

noncomputable def qShades (X : AX) (x : Int32) : An :=
  cif (okS X x) (match X.gr with
    | none => (0, 0)
    | some q => if (q.1.g.shK (q.1.g.shE false)).mu then (-1, 6) else (I ((q.1.g.shK (q.1.g.shE false)).mn (ni x)), 0)) (-1, 4)
theorem pt_shades (R : TwRep T X) {Q : Int32 → TS → Prop} (h : ∀ U, TwRep U (X.ws (qShades X x).2) → Q (qShades X x).1 U) : wp_X1_shades x T Q := by
  unfold wp_X1_shades
  refine pt_isSymbolR R ?_
  unfold qShades at h
  by_cases hs : okS X x
  rotate_left
  · rw [iP_neg hs]
    rw [cif_neg hs] at h
    exact brT rfl (pt_refuse R h)
  rw [iP_pos hs]
  rw [cif_pos hs] at h
  refine brF (by decide) ?_
  obtain ⟨A, ind, hg, k, hk, e⟩ := hs
  subst e
  rw [hg] at h
  dsimp only at h
  obtain ⟨W, _, _, s, g, _⟩ := R.gg hg
  have hS := W.nS
  rw [I_ni (by omega)] at h
  refine pt_seeks W g false ?_
  intro U F Y l1 l2
  have RU := R.keep F (by decide) (by decide)
  generalize A.g.shK (A.g.shE false) = st at *
  rw [Y.mu]
  cases hmu : st.mu with
  | true =>
    rw [hmu, if_pos rfl] at h
    exact brF (by decide) (pt_refuse RU h)
  | false =>
    rw [hmu, if_neg (by decide)] at h
    refine brT rfl ⟨tix_I rfl (by show _ < 8; omega) (by decide), ?_⟩
    rw [I_ni (by omega), Y.mn k (by omega)]
    exact pt_gives RU h
end
