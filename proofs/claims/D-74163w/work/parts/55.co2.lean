/-! plain: cg5 cg6 cg7 cg8 -/
set_option maxRecDepth 100000
section
variable {G : Gv} {h : AH} {L : GA}

theorem px_hangsOnItself (W : G.WF) {ind : Nat → Int32} {s : Nat} (hs : s < G.nS) (S : SyR h.c L G s) (hI : ∀ a, a < 8 → h.c.ai (L.si s) a = ind (8 * s + a)) (hz : ∀ a, G.cnt s ≤ a → a < 8 → ind (8 * s + a) = 0)
    {Q : Int32 → AH → Prop} (hQ : Q (if G.self ind s then 1 else 0) h) : wp_X5_hangsOnItself (L.sa s) h Q := by
  have hc := W.cnt8 hs
  have i1 : h.fr 603 (L.sa s) = some (L.si s) := S.i1
  unfold wp_X5_hangsOnItself
  refine xlp_cnt 8 (fun k q T => q = I k ∧ T = h ∧ ∀ a, a < k → a < G.cnt s → bt (ind (8 * s + a)) a = false) ⟨rfl, rfl, fun a ha => by omega⟩ ?_
  rintro k _ T K hk ⟨rfl, rfl, hf⟩ hK
  by_cases e : k = 8
  · subst e
    refine brT (by (first | omega | ((try simp (disch := omega) only [L_le, le_L, L_lt, lt_L, eq_L, L_eq, I_le, I_lt, I_eq, I_ni, add_L, L_add, I_add, mul_L, L_mul, I_mul, sub_L, L_sub, I_sub, div_L, rem_L]); done) | ((try simp (disch := omega) only [L_le, le_L, L_lt, lt_L, eq_L, L_eq, I_le, I_lt, I_eq, I_ni, add_L, L_add, I_add, mul_L, L_mul, I_mul, sub_L, L_sub, I_sub, div_L, rem_L]); omega))) ?_
    rw [if_neg (by rw [Gv.self_false.2 (fun a ha => hf a (by omega) ha)]; simp)] at hQ; exact hQ
  refine brF (by (first | omega | ((try simp (disch := omega) only [L_le, le_L, L_lt, lt_L, eq_L, L_eq, I_le, I_lt, I_eq, I_ni, add_L, L_add, I_add, mul_L, L_mul, I_mul, sub_L, L_sub, I_sub, div_L, rem_L]); done) | ((try simp (disch := omega) only [L_le, le_L, L_lt, lt_L, eq_L, L_eq, I_le, I_lt, I_eq, I_ni, add_L, L_add, I_add, mul_L, L_mul, I_mul, sub_L, L_sub, I_sub, div_L, rem_L]); omega))) ⟨nn_of rfl S.k, ix_of i1 S.i2 (by omega) (by decide), ?_⟩
  have hx := hI k (by omega)
  simp only [pc_ai] at hx
  rw [i1, adr_some, I_ni (by omega), hx]
  refine px_has (h := T.srm 0 0) (by omega) (pu ?_)
  (try simp (disch := omega) only [L_le, le_L, L_lt, lt_L, eq_L, L_eq, I_le, I_lt, I_eq, I_ni, add_L, L_add, I_add, mul_L, L_mul, I_mul, sub_L, L_sub, I_sub, div_L, rem_L])
  by_cases hkc : k < G.cnt s
  · by_cases hb : bt (ind (8 * s + k)) k = true
    · rw [if_pos hb]
      refine brF (by decide) ?_
      have : G.self ind s = true := by
        cases hh : G.self ind s with
        | true => rfl
        | false => have := Gv.self_false.1 hh k hkc; rw [hb] at this; exact absurd this (by simp)
      rw [if_pos this] at hQ; exact hQ
    · rw [if_neg hb]
      refine brT rfl (hK _ _ (by omega) ⟨rfl, rfl, fun a ha hac => ?_⟩)
      by_cases e : a = k
      · rw [e]; simpa using hb
      · exact hf a (by omega) hac
  · rw [hz k (by omega) (by omega), bt_zero]
    refine brT rfl (hK _ _ (by omega) ⟨rfl, rfl, fun a ha hac => ?_⟩)
    exact hf a (by omega) hac

/-- the set of those in no set. -/
def lef (c : Nat) (so : Nat → Nat) : Int32 := ofB (fun a => decide (a < c ∧ so a = 0))
theorem lef_bt {c : Nat} {so : Nat → Nat} {k : Nat} (hk : k < 32) : bt (lef c so) k = decide (k < c ∧ so k = 0) := ofB_bt _ hk
theorem lef_zero {c : Nat} {so : Nat → Nat} (hc : c ≤ 32) : lef c so = 0 ↔ ∀ a, a < c → so a ≠ 0 := by
  constructor
  · intro h a ha h0
    have := congrArg (bt · a) h
    simp only [lef_bt (show a < 32 by omega), bt_zero] at this
    simp [ha, h0] at this
  · intro h
    exact ofBN_zero' (fun a ha => decide_eq_false (fun hh => h a hh.1 hh.2))

theorem px_isAsked (W : G.WF) {ind : Nat → Int32} {s a : Nat} (hs : s < G.nS) (S : SyR h.c L G s) (hI : ∀ a, a < 8 → h.c.ai (L.si s) a = ind (8 * s + a)) (ha : a < 8) {so : Nat → Nat}
    {Q : Int32 → AH → Prop} (hQ : Q (if fre (G.cnt s) (fun a => ind (8 * s + a)) so a then 0 else 1) h) : wp_X5_isAsked (L.sa s) (I a) (lef (G.cnt s) so) h Q := by
  have hc := W.cnt8 hs
  have i1 : h.fr 603 (L.sa s) = some (L.si s) := S.i1
  unfold wp_X5_isAsked
  refine xlp_cnt (G.cnt s) (fun k q T => q = I k ∧ T = h ∧ fstN (fun e => decide (so e = 0) && bt (ind (8 * s + e)) a) k = none) ⟨rfl, rfl, rfl⟩ ?_
  rintro k _ T K hk ⟨rfl, rfl, hf⟩ hK
  refine ⟨nn_of rfl S.k, ?_⟩
  refine px_count (h := T.srm 0 0) S (pu ?_)
  by_cases e : k = G.cnt s
  · subst e
    refine brT (by (first | omega | ((try simp (disch := omega) only [L_le, le_L, L_lt, lt_L, eq_L, L_eq, I_le, I_lt, I_eq, I_ni, add_L, L_add, I_add, mul_L, L_mul, I_mul, sub_L, L_sub, I_sub, div_L, rem_L]); done) | ((try simp (disch := omega) only [L_le, le_L, L_lt, lt_L, eq_L, L_eq, I_le, I_lt, I_eq, I_ni, add_L, L_add, I_add, mul_L, L_mul, I_mul, sub_L, L_sub, I_sub, div_L, rem_L]); omega))) ?_
    rw [fre, hf] at hQ; exact hQ
  refine brF (by (first | omega | ((try simp (disch := omega) only [L_le, le_L, L_lt, lt_L, eq_L, L_eq, I_le, I_lt, I_eq, I_ni, add_L, L_add, I_add, mul_L, L_mul, I_mul, sub_L, L_sub, I_sub, div_L, rem_L]); done) | ((try simp (disch := omega) only [L_le, le_L, L_lt, lt_L, eq_L, L_eq, I_le, I_lt, I_eq, I_ni, add_L, L_add, I_add, mul_L, L_mul, I_mul, sub_L, L_sub, I_sub, div_L, rem_L]); omega))) ?_
  refine px_has (h := T.srm 0 0) (by omega) (pu ?_)
  rw [lef_bt (by omega)]
  have hnext : (decide (so k = 0) && bt (ind (8 * s + k)) a) = false → K (I (k + 1)) T := by
    intro hh
    refine hK _ _ (by omega) ⟨rfl, rfl, fstN_none.2 (fun j hj => ?_)⟩
    by_cases e : j = k
    · rw [e]; exact hh
    · exact fstN_none.1 hf j (by omega)
  by_cases h0 : so k = 0
  · rw [if_pos (decide_eq_true ⟨by omega, h0⟩)]
    refine brF (by decide) ⟨nn_of rfl S.k, ix_of i1 S.i2 (by omega) (by decide), ?_⟩
    have hx := hI k (by omega)
    simp only [pc_ai] at hx
    rw [i1, adr_some, I_ni (by omega), hx]
    refine px_has (h := T.srm 0 0) (by omega) (pu ?_)
    (try simp (disch := omega) only [L_le, le_L, L_lt, lt_L, eq_L, L_eq, I_le, I_lt, I_eq, I_ni, add_L, L_add, I_add, mul_L, L_mul, I_mul, sub_L, L_sub, I_sub, div_L, rem_L])
    by_cases hb : bt (ind (8 * s + k)) a = true
    · rw [if_pos hb]
      refine brF (by decide) ?_
      have : fre (G.cnt s) (fun a => ind (8 * s + a)) so a = false := by
        unfold fre
        rw [(fstN_some (P := fun e => decide (so e = 0) && bt (ind (8 * s + e)) a)).2 ⟨by omega, by simp [h0, hb], fstN_none.1 hf⟩]; rfl
      rw [this] at hQ; exact hQ
    · rw [if_neg hb]
      exact brT rfl (hnext (by simp [hb]))
  · rw [if_neg (by simp [h0])]
    refine brT rfl ?_
    (try simp (disch := omega) only [L_le, le_L, L_lt, lt_L, eq_L, L_eq, I_le, I_lt, I_eq, I_ni, add_L, L_add, I_add, mul_L, L_mul, I_mul, sub_L, L_sub, I_sub, div_L, rem_L])
    exact hnext (by simp [h0])

/-- what orders of a symbol write. -/
def WO (L : GA) (s : Nat) : Nat → Nat → Prop := fun f b => (f = 605 ∧ b = L.sa s) ∨ (f = 0 ∧ b = L.sv s)

theorem oPsN_side {c ins v : Nat} {row : Nat → Int32} {so : Nat → Nat} {n m : Nat} (h : n ≤ m) (hs : ∀ a, n ≤ a → a < m → sid ins v a = false) : oPsN c ins row v m so = oPsN c ins row v n so := by
  induction m with
  | zero => have : n = 0 := by omega
            rw [this]
  | succ m ih =>
    by_cases e : n = m + 1
    · rw [e]
    · simp only [oPsN]
      rw [if_neg (fun hh => by rw [hs m (by omega) (by omega)] at hh; exact absurd hh.2.1 (by simp))]
      exact ih (by omega) (fun a h1 h2 => hs a h1 (by omega))

theorem lef_upd {c : Nat} {so : Nat → Nat} {a v : Nat} (ha : a < 8) (hc : c ≤ 8) (hv : v ≠ 0) : (lef c so &&& (jshl 1 (I a) ^^^ (-1))) = lef c (updN so a v) := by
  apply bt_ext
  intro k hk
  rw [bt_and, lef_bt hk, bt_notx _ hk, bt_1shl (by omega), lef_bt hk]
  by_cases e : k = a
  · subst e; simp [updN, hv]
  · simp [updN, e]

theorem px_orders (W : G.WF) {ind : Nat → Int32} {s : Nat} (hs : s < G.nS) (S : SyR h.c L G s) (hne : L.si s ≠ L.sv s) (hI : ∀ a, a < 8 → h.c.ai (L.si s) a = ind (8 * s + a)) (hz : ∀ a, G.cnt s ≤ a → a < 8 → ind (8 * s + a) = 0)
    (hA : G.self ind s = false → Acy (G.cnt s) (fun a => ind (8 * s + a))) (hr : 1 ≤ h.rc) (hrs : 8 ≤ h.rs)
    {Q : AH → Prop} (hQ : ∀ h', Fr (WO L s) h.c h'.c → Vis h'.c L G ind s → Q h') : wp_X5_orders (L.sa s) h Q := by
  have hc := W.cnt8 hs
  have hi := W.ins s hs
  have hic := W.ic s hs
  have i1 : h.fr 603 (L.sa s) = some (L.si s) := S.i1
  have v1 : h.fr 604 (L.sa s) = some (L.sv s) := S.v1
  have ei : h.fi 602 (L.sa s) = I (G.ins s) := S.ins
  have keepS : ∀ h' : AH, Fr (WO L s) h.c h'.c → SyR h'.c L G s := fun h' F => S.keep F (by
    rintro f hf (hw | hw)
    · rcases hf with rfl | rfl | rfl | rfl <;> exact absurd hw.1 (by decide)
    · rcases hf with rfl | rfl | rfl | rfl <;> exact absurd hw.1 (by decide)) (by
    rintro (hw | hw)
    · exact absurd hw.1 (by decide)
    · exact absurd hw.1 (by decide))
  have keepI : ∀ h' : AH, Fr (WO L s) h.c h'.c → ∀ a, a < 8 → h'.c.ai (L.si s) a = ind (8 * s + a) := fun h' F a ha => by
    rw [F.ai _ S.i3 (by
      rintro (hw | hw)
      · exact absurd hw.1 (by decide)
      · exact hne hw.2)]; exact hI a ha
  unfold wp_X5_orders
  refine ⟨nn_of rfl S.k, ?_⟩
  rintro _ rfl
  have F2 : Fr (WO L s) h.c (h.sfi 605 (L.sa s) 0).c := (Fr.refl _).sfi _ (fun _ => .inl ⟨rfl, rfl⟩)
  have S2 := keepS _ F2
  refine px_hangsOnItself (h := (h.sfi 605 (L.sa s) 0).srm 0 0) W hs S2 (keepI _ F2) hz (pu ?_)
  cases hsf : G.self ind s with
  | true =>
    refine brF (by decide) (hQ _ F2 ⟨?_, fun hh => absurd hh (by rw [hsf]; decide)⟩)
    rw [hsf]; exact sfi_same _ _ _ _
  | false =>
    refine brT rfl ⟨nn_of rfl S2.k, ?_⟩
    refine px_count (h := (h.sfi 605 (L.sa s) 0).srm 0 0) S2 (pu ?_)
    refine ⟨⟨by decide, by decide, hr, hrs⟩, ?_⟩
    rintro _ rfl
    let row : Nat → Int32 := fun a => ind (8 * s + a)
    have A : Acy (G.cnt s) row := hA hsf
    have F3 : Fr (WO L s) h.c ((h.sfi 605 (L.sa s) 0).new 40 (ni 8) (ni 8)).c := F2.new _ _ _
    have hzz : ∀ (T : AH), Fr (WO L s) h.c T.c → h.c.sz ≤ T.c.sz := fun T F => F.sz
    have hlef0 : jshl 1 (I (G.cnt s)) - 1 = lef (G.cnt s) (fun _ => 0) := by
      apply bt_ext
      intro k hk
      rw [bt_mask (by omega), lef_bt hk]; simp
    rw [hlef0]
    -- the sets
    refine ⟨fun n q T => ∃ j so, Sts (G.cnt s) (G.ins s) row j so ∧ Fr (WO L s) h.c T.c ∧ q = (lef (G.cnt s) so, I j) ∧ T.kd h.sz = (40, 8) ∧ (∀ x, x < 8 → T.ai h.sz x = I (so x)) ∧ ((∀ a, a < G.cnt s → so a ≠ 0) ∨ ((∃ a, a < G.cnt s ∧ so a = 0) ∧ n = 1 + ordM (G.cnt s) (G.ins s) row j so)), ?_, ?_⟩
    · refine ⟨1 + ordM (G.cnt s) (G.ins s) row 0 (fun _ => 0), 0, fun _ => 0, Sts.zero, F3, rfl, ?_, fun x hx => ?_, ?_⟩
      · rw [new_kd]; exact if_pos rfl
      · rw [new_ai]
        have : (if h.sz = (h.sfi 605 (L.sa s) 0).sz then (fun _ => (0 : Int32)) else (h.sfi 605 (L.sa s) 0).ai h.sz) x = 0 := by rw [if_pos (show h.sz = (h.sfi 605 (L.sa s) 0).sz from rfl)]
        exact this
      · by_cases h0 : G.cnt s = 0
        · left; intro a ha; omega
        · right; exact ⟨⟨0, by omega, rfl⟩, rfl⟩
    rintro n _ T ⟨j, so, hst, hF, rfl, hkT, hso, hfl⟩
    have ST := keepS _ hF
    have IT := keepI _ hF
    by_cases hall : ∀ a, a < G.cnt s → so a ≠ 0
    · refine brT ((lef_zero (by omega)).2 hall) ⟨nn_of rfl ST.k, ?_⟩
      have hord : IsOrd (G.cnt s) (G.ins s) row j so := ⟨hst, hall⟩
      have hj17 : j ≤ 17 := by have := hord.bound A; omega
      have hv9 := visN_le hj17
      have evs : G.vs ind s = visN j := by simp only [Gv.vs]; rw [ordOf_eq hord]
      have evo : ∀ a, G.vo ind s a = visO j (so a) := by intro a; simp only [Gv.vo]; rw [ordOf_eq hord]
      rintro _ rfl
      have hvx : (if 1 < (I j + 1) / 2 then (I j + 1) / 2 else (1 : Int32)) = I (visN j) := by
        (try simp (disch := omega) only [L_le, le_L, L_lt, lt_L, eq_L, L_eq, I_le, I_lt, I_eq, I_ni, add_L, L_add, I_add, mul_L, L_mul, I_mul, sub_L, L_sub, I_sub, div_L, rem_L])
        unfold visN
        by_cases e : j = 0
        · subst e; rfl
        · rw [if_neg e]
          by_cases e1 : 1 < (j + 1) / 2
          · rw [if_pos e1]
          · rw [if_neg e1]
            have : (j + 1) / 2 = 1 := by omega
            rw [this]; rfl
      dsimp only
      rw [hvx]
      refine xlp_cnt (G.cnt s) (fun m q T' => q = I m ∧ Fr (WO L s) h.c T'.c ∧ T'.fi 605 (L.sa s) = I (visN j) ∧ T'.kd h.sz = (40, 8) ∧ T'.ai h.sz = T.ai h.sz ∧ ∀ a, a < m → T'.ai (L.sv s) a = I (visO j (so a))) ⟨rfl, hF.sfi _ (fun _ => .inl ⟨rfl, rfl⟩), ?_, hkT, rfl, fun a ha => by omega⟩ ?_
      · rw [sfi_fi, if_pos ⟨rfl, rfl⟩]
      rintro m _ T' K hm ⟨rfl, hF', hn', hk', ha', hv'⟩ hK
      have ST' := keepS _ hF'
      refine ⟨nn_of rfl ST'.k, ?_⟩
      refine px_count (h := T'.srm 0 0) ST' (pu ?_)
      by_cases e : m = G.cnt s
      · subst e
        refine brT (by (first | omega | ((try simp (disch := omega) only [L_le, le_L, L_lt, lt_L, eq_L, L_eq, I_le, I_lt, I_eq, I_ni, add_L, L_add, I_add, mul_L, L_mul, I_mul, sub_L, L_sub, I_sub, div_L, rem_L]); done) | ((try simp (disch := omega) only [L_le, le_L, L_lt, lt_L, eq_L, L_eq, I_le, I_lt, I_eq, I_ni, add_L, L_add, I_add, mul_L, L_mul, I_mul, sub_L, L_sub, I_sub, div_L, rem_L]); omega))) (hQ T' hF' ⟨?_, fun _ a ha => ?_⟩)
        · rw [if_neg (by rw [hsf]; simp), evs]; exact hn'
        · rw [evo]; exact hv' a ha
      have v1' : T'.fr 604 (L.sa s) = some (L.sv s) := ST'.v1
      refine brF (by (first | omega | ((try simp (disch := omega) only [L_le, le_L, L_lt, lt_L, eq_L, L_eq, I_le, I_lt, I_eq, I_ni, add_L, L_add, I_add, mul_L, L_mul, I_mul, sub_L, L_sub, I_sub, div_L, rem_L]); done) | ((try simp (disch := omega) only [L_le, le_L, L_lt, lt_L, eq_L, L_eq, I_le, I_lt, I_eq, I_ni, add_L, L_add, I_add, mul_L, L_mul, I_mul, sub_L, L_sub, I_sub, div_L, rem_L]); omega))) ⟨nn_of rfl ST'.k, ix_of (a := h.sz) rfl hk' (by omega) (by decide), ix_of v1' ST'.v2 (by omega) (by decide), ?_⟩
      rintro _ rfl
      (try simp (disch := omega) only [L_le, le_L, L_lt, lt_L, eq_L, L_eq, I_le, I_lt, I_eq, I_ni, add_L, L_add, I_add, mul_L, L_mul, I_mul, sub_L, L_sub, I_sub, div_L, rem_L])
      refine hK _ _ (by omega) ⟨rfl, hF'.sai _ _ (fun _ => .inr ⟨rfl, by rw [v1']; rfl⟩), hn', hk', ?_, ?_⟩
      · rw [sai_ai, v1', adr_some, if_neg]
        · exact ha'
        · intro e; have := S.v3; rw [← e] at this; exact absurd this (Nat.lt_irrefl _)
      · intro a ha
        rw [sai_ai, v1', adr_some, if_pos rfl]
        by_cases e : a = m
        · subst e
          rw [updN_same, hn', show (h.sfi 605 (L.sa s) 0).sz = h.sz from rfl, ha', hso a (by omega)]
          have h0 := hall a (by omega)
          have hle := hst.le a
          have h2 : (so a - 1) / 2 ≤ visN j := by unfold visN; split <;> omega
          (try simp (disch := omega) only [L_le, le_L, L_lt, lt_L, eq_L, L_eq, I_le, I_lt, I_eq, I_ni, add_L, L_add, I_add, mul_L, L_mul, I_mul, sub_L, L_sub, I_sub, div_L, rem_L])
          congr 1
          unfold visO
          have : (so a + 1) / 2 = (so a - 1) / 2 + 1 := by omega
          have h3 : (so a + 1) / 2 ≤ visN j := by unfold visN; split <;> omega
          omega
        · rw [updN_ne _ _ e]; exact hv' a (by omega)
    have hex : ∃ a, a < G.cnt s ∧ so a = 0 := Classical.byContradiction fun hn => hall (fun a ha h0 => hn ⟨a, ha, h0⟩)
    have hn1 : n = 1 + ordM (G.cnt s) (G.ins s) row j so := by
      rcases hfl with hh | hh
      · exact absurd hh hall
      · exact hh.2
    subst hn1
    refine brF (fun hh => hall ((lef_zero (by omega)).1 hh)) ?_
    have hjb : j ≤ 17 := by have := hst.bound A hex; omega
    rintro m26 rfl
    dsimp only
    (try simp (disch := omega) only [L_le, le_L, L_lt, lt_L, eq_L, L_eq, I_le, I_lt, I_eq, I_ni, add_L, L_add, I_add, mul_L, L_mul, I_mul, sub_L, L_sub, I_sub, div_L, rem_L])
    have hm26 : (if j % 2 = 0 then (1 : Int32) else 0) = 0 ↔ ¬ (j + 1) % 2 = 1 := by
      by_cases e : j % 2 = 0
      · rw [if_pos e]; constructor
        · intro hh; exact absurd hh (by decide)
        · intro hh; omega
      · rw [if_neg e]; constructor
        · intro _; omega
        · intro _; rfl
    -- a set
    have hbK : ∀ k x, oPsK (G.cnt s) (G.ins s) row (j + 1) so k x < 100 := by
      intro k x
      rcases oPsK_val (c := G.cnt s) (ins := G.ins s) (row := row) (v := j + 1) (so := so) (x := x) k with h | h
      · rw [h]; have := hst.le x; omega
      · rw [h]; omega
    refine ⟨fun n q T' => ∃ k, q.1 = lef (G.cnt s) (oPsK (G.cnt s) (G.ins s) row (j + 1) so k) ∧ Fr (WO L s) h.c T'.c ∧ T'.kd h.sz = (40, 8) ∧ (∀ x, x < 8 → T'.ai h.sz x = I (oPsK (G.cnt s) (G.ins s) row (j + 1) so k x)) ∧
      ((q.2 = 0 ∧ oPsN (G.cnt s) (G.ins s) row (j + 1) (G.cnt s) (oPsK (G.cnt s) (G.ins s) row (j + 1) so k) = oPsK (G.cnt s) (G.ins s) row (j + 1) so k) ∨
       (q.2 = 1 ∧ n = 1 + zer (G.cnt s) (oPsK (G.cnt s) (G.ins s) row (j + 1) so k))), ⟨_, 0, rfl, hF, hkT, hso, .inr ⟨rfl, rfl⟩⟩, ?_⟩
    rintro n ⟨q1, q2⟩ T' ⟨k, hq1, hF', hk', hso', hfl'⟩
    replace hq1 : q1 = lef (G.cnt s) (oPsK (G.cnt s) (G.ins s) row (j + 1) so k) := hq1
    subst hq1
    rcases hfl' with ⟨hq, hfix⟩ | ⟨hq, hn⟩
    · replace hq : q2 = 0 := hq
      subst hq
      refine brT rfl ?_
      have hfil : Fil (G.cnt s) (G.ins s) row (j + 1) so (oPsK (G.cnt s) (G.ins s) row (j + 1) so k) := ⟨hfix, k, rfl⟩
      have hst' := Sts.succ hst hex hfil
      by_cases hall' : ∀ a, a < G.cnt s → oPsK (G.cnt s) (G.ins s) row (j + 1) so k a ≠ 0
      · exact ⟨0, by omega, j + 1, _, hst', hF', rfl, hk', hso', .inl hall'⟩
      · have hex' : ∃ a, a < G.cnt s ∧ oPsK (G.cnt s) (G.ins s) row (j + 1) so k a = 0 := Classical.byContradiction fun hn => hall' (fun a ha h0 => hn ⟨a, ha, h0⟩)
        have := ordM_lt A hex' hfil
        exact ⟨1 + ordM _ _ _ (j + 1) _, by omega, j + 1, _, hst', hF', rfl, hk', hso', .inr ⟨hex', rfl⟩⟩
    replace hq : q2 = 1 := hq
    subst hq
    replace hn : n = 1 + zer (G.cnt s) (oPsK (G.cnt s) (G.ins s) row (j + 1) so k) := hn
    refine brF (show ¬ (1 : Int32) = 0 by decide) ?_
    have hbN : ∀ m x, oPsN (G.cnt s) (G.ins s) row (j + 1) m (oPsK (G.cnt s) (G.ins s) row (j + 1) so k) x < 100 := by
      intro m x
      rcases oPsN_val (c := G.cnt s) (ins := G.ins s) (row := row) (v := j + 1) (so := oPsK (G.cnt s) (G.ins s) row (j + 1) so k) (x := x) m with h | h
      · rw [h]; exact hbK k x
      · rw [h]; omega
    let lo : Nat := if (j + 1) % 2 = 1 then G.ins s else 0
    let hi' : Nat := if (j + 1) % 2 = 1 then G.cnt s else G.ins s
    have hlo : lo ≤ hi' ∧ hi' ≤ G.cnt s := by
      by_cases e : (j + 1) % 2 = 1 <;> simp only [lo, hi', e, if_true, if_false] <;> omega
    have hside : ∀ a, sid (G.ins s) (j + 1) a = true ↔ ((j + 1) % 2 = 1 ↔ G.ins s ≤ a) := by
      intro a
      simp only [sid]
      by_cases e1 : G.ins s ≤ a <;> by_cases e2 : (j + 1) % 2 = 1 <;> simp [e1, e2]
    have hlow : ∀ a, a < lo → sid (G.ins s) (j + 1) a = false := by
      intro a ha
      cases hh : sid (G.ins s) (j + 1) a with
      | false => rfl
      | true =>
        have := (hside a).1 hh
        by_cases e : (j + 1) % 2 = 1
        · simp only [lo, e, if_true] at ha; have := this.1 e; omega
        · simp only [lo, e, if_false] at ha; omega
    have hhigh : ∀ a, hi' ≤ a → a < G.cnt s → sid (G.ins s) (j + 1) a = false := by
      intro a ha hac
      cases hh : sid (G.ins s) (j + 1) a with
      | false => rfl
      | true =>
        have := (hside a).1 hh
        by_cases e : (j + 1) % 2 = 1
        · simp only [hi', e, if_true] at ha; omega
        · simp only [hi', e, if_false] at ha; exact absurd (this.2 ha) e
    have hmid : ∀ a, lo ≤ a → a < hi' → sid (G.ins s) (j + 1) a = true := by
      intro a h1 h2
      refine (hside a).2 ?_
      by_cases e : (j + 1) % 2 = 1
      · simp only [lo, e, if_true] at h1; exact ⟨fun _ => h1, fun _ => e⟩
      · simp only [hi', e, if_false] at h2; exact ⟨fun x => absurd x e, fun x => by omega⟩
    have ST1 := keepS _ hF'
    have ei1 : T'.fi 602 (L.sa s) = I (G.ins s) := ST1.ins
    refine ⟨fun x T2 => x = I lo ∧ T2 = T', ?_, ?_⟩
    · by_cases e : (j + 1) % 2 = 1
      · refine brF (fun hh => (hm26.1 hh) e) ⟨nn_of rfl ST1.k, ?_, rfl⟩
        rw [ei1]; simp only [lo, e, if_true]
      · exact brT (hm26.2 e) ⟨by simp only [lo, e, if_false]; rfl, rfl⟩
    rintro x T2 ⟨rfl, rfl⟩
    refine xlp_cnt (hi' - lo) (fun m q T' => q.2.2 = I (lo + m) ∧ q.1 = lef (G.cnt s) (oPsN (G.cnt s) (G.ins s) row (j + 1) (lo + m) (oPsK (G.cnt s) (G.ins s) row (j + 1) so k)) ∧ Fr (WO L s) h.c T'.c ∧ T'.kd h.sz = (40, 8) ∧
      (∀ x, x < 8 → T'.ai h.sz x = I (oPsN (G.cnt s) (G.ins s) row (j + 1) (lo + m) (oPsK (G.cnt s) (G.ins s) row (j + 1) so k) x)) ∧
      ((q.2.1 = 0 ∧ zer (G.cnt s) (oPsN (G.cnt s) (G.ins s) row (j + 1) (lo + m) (oPsK (G.cnt s) (G.ins s) row (j + 1) so k)) = zer (G.cnt s) (oPsK (G.cnt s) (G.ins s) row (j + 1) so k)) ∨
       (q.2.1 = 1 ∧ zer (G.cnt s) (oPsN (G.cnt s) (G.ins s) row (j + 1) (lo + m) (oPsK (G.cnt s) (G.ins s) row (j + 1) so k)) < zer (G.cnt s) (oPsK (G.cnt s) (G.ins s) row (j + 1) so k)))) ?_ ?_
    · have e0 : oPsN (G.cnt s) (G.ins s) row (j + 1) lo (oPsK (G.cnt s) (G.ins s) row (j + 1) so k) = oPsK (G.cnt s) (G.ins s) row (j + 1) so k := oPsN_side (n := 0) (Nat.zero_le _) (fun a _ ha => hlow a ha)
      exact ⟨rfl, congrArg (lef (G.cnt s)) e0.symm, hF', hk', fun x hx => (hso' x hx).trans (congrArg (fun f => I (f x)) e0.symm), .inl ⟨rfl, congrArg (zer (G.cnt s)) e0⟩⟩
    clear hk' hso'
    rintro m ⟨q1, q2, _⟩ T3 K hm ⟨rfl, hq1, hF3, hk3, hso3, hq⟩ hK
    replace hq1 : q1 = lef (G.cnt s) (oPsN (G.cnt s) (G.ins s) row (j + 1) (lo + m) (oPsK (G.cnt s) (G.ins s) row (j + 1) so k)) := hq1
    subst hq1
    have ST3 := keepS _ hF3
    have ei3 : T3.fi 602 (L.sa s) = I (G.ins s) := ST3.ins
    refine ⟨fun x T4 => x = I hi' ∧ T4 = T3, ?_, ?_⟩
    · by_cases e : (j + 1) % 2 = 1
      · refine brF (fun hh => (hm26.1 hh) e) ⟨nn_of rfl ST3.k, ?_⟩
        refine px_count (h := T3.srm 0 0) ST3 (pu ?_)
        exact ⟨by simp only [hi', e, if_true], rfl⟩
      · refine brT (hm26.2 e) ⟨nn_of rfl ST3.k, ?_, rfl⟩
        rw [ei3]; simp only [hi', e, if_false]
    rintro x T4 ⟨rfl, rfl⟩
    dsimp only
    (try simp (disch := omega) only [L_le, le_L, L_lt, lt_L, eq_L, L_eq, I_le, I_lt, I_eq, I_ni, add_L, L_add, I_add, mul_L, L_mul, I_mul, sub_L, L_sub, I_sub, div_L, rem_L])
    by_cases e : hi' ≤ lo + m
    · refine brT e ?_
      have elm : lo + m = hi' := by omega
      have e0 : oPsN (G.cnt s) (G.ins s) row (j + 1) (G.cnt s) (oPsK (G.cnt s) (G.ins s) row (j + 1) so k) = oPsN (G.cnt s) (G.ins s) row (j + 1) (lo + m) (oPsK (G.cnt s) (G.ins s) row (j + 1) so k) := oPsN_side (by omega) (fun a h1 h2 => hhigh a (by omega) h2)
      rw [← e0] at hso3 hq ⊢
      rcases hq with ⟨hq, hz'⟩ | ⟨hq, hz'⟩
      · have := oPsN_same (by omega) (G.cnt s) (Nat.le_refl _) _ hz'
        refine ⟨0, by omega, k + 1, rfl, hF3, hk3, hso3, .inl ⟨hq, ?_⟩⟩
        show oPsN _ _ _ _ _ (oPsN _ _ _ _ _ _) = oPsN _ _ _ _ _ _
        rw [this, this]
      · exact ⟨_, by show 1 + zer _ (oPsN _ _ _ _ _ _) < _; omega, k + 1, rfl, hF3, hk3, hso3, .inr ⟨hq, rfl⟩⟩
    refine brF e ?_
    refine px_has (h := T4.srm 0 0) (by omega) (pu ?_)
    rw [lef_bt (by omega)]
    have hsd := hmid (lo + m) (by omega) (by omega)
    have hnext : ¬ (oPsN (G.cnt s) (G.ins s) row (j + 1) (lo + m) (oPsK (G.cnt s) (G.ins s) row (j + 1) so k) (lo + m) = 0 ∧ sid (G.ins s) (j + 1) (lo + m) = true ∧ fre (G.cnt s) row (oPsN (G.cnt s) (G.ins s) row (j + 1) (lo + m) (oPsK (G.cnt s) (G.ins s) row (j + 1) so k)) (lo + m) = true) →
        K (lef (G.cnt s) (oPsN (G.cnt s) (G.ins s) row (j + 1) (lo + m) (oPsK (G.cnt s) (G.ins s) row (j + 1) so k)), q2, I (lo + m + 1)) T4 := by
      intro hcn
      have e1 : oPsN (G.cnt s) (G.ins s) row (j + 1) (lo + (m + 1)) (oPsK (G.cnt s) (G.ins s) row (j + 1) so k) = oPsN (G.cnt s) (G.ins s) row (j + 1) (lo + m) (oPsK (G.cnt s) (G.ins s) row (j + 1) so k) := by
        rw [show lo + (m + 1) = lo + m + 1 from rfl]
        simp only [oPsN]
        rw [if_neg hcn]
      refine hK _ _ (by omega) ⟨rfl, by rw [e1], hF3, hk3, by rw [e1]; exact hso3, by rw [e1]; exact hq⟩
    by_cases h0 : oPsN (G.cnt s) (G.ins s) row (j + 1) (lo + m) (oPsK (G.cnt s) (G.ins s) row (j + 1) so k) (lo + m) = 0
    · rw [if_pos (decide_eq_true ⟨by omega, h0⟩)]
      refine brF (by decide) ⟨nn_of rfl ST3.k, ?_⟩
      refine px_isAsked (h := T4.srm 0 0) W hs ST3 (keepI _ hF3) (by omega) (pu ?_)
      by_cases hfr : fre (G.cnt s) row (oPsN (G.cnt s) (G.ins s) row (j + 1) (lo + m) (oPsK (G.cnt s) (G.ins s) row (j + 1) so k)) (lo + m) = true
      · rw [if_pos hfr]
        refine brT rfl ⟨ix_of (a := h.sz) rfl hk3 (by omega) (by decide), ?_⟩
        rintro _ rfl
        have e1 : oPsN (G.cnt s) (G.ins s) row (j + 1) (lo + (m + 1)) (oPsK (G.cnt s) (G.ins s) row (j + 1) so k) = updN (oPsN (G.cnt s) (G.ins s) row (j + 1) (lo + m) (oPsK (G.cnt s) (G.ins s) row (j + 1) so k)) (lo + m) (j + 1) := by
          rw [show lo + (m + 1) = lo + m + 1 from rfl]
          simp only [oPsN]
          rw [if_pos ⟨h0, hsd, hfr⟩]
        rw [lef_upd (by omega) hc (show j + 1 ≠ 0 by omega)]
        refine hK _ _ (by omega) ⟨rfl, by rw [e1], hF3.sai _ _ (fun hh => ?_), hk3, ?_, .inr ⟨rfl, ?_⟩⟩
        · exact absurd hh (Nat.lt_irrefl _)
        · intro x hx
          rw [e1, show (h.sfi 605 (L.sa s) 0).sz = h.sz from rfl, sai_ai, if_pos rfl]
          simp only [updN]
          by_cases ex : x = lo + m
          · rw [if_pos ex, if_pos ex]
          · rw [if_neg ex, if_neg ex]; exact hso3 x hx
        · rw [e1]
          have h1 := (Mor.upd (v := j + 1) h0).zer_lt (c := G.cnt s) (show lo + m < G.cnt s by omega) h0 (by rw [updN_same]; omega)
          rcases hq with ⟨_, hq⟩ | ⟨_, hq⟩ <;> omega
      · rw [if_neg hfr]
        exact brF (by decide) (hnext (fun hh => hfr hh.2.2))
    · rw [if_neg (by simp [h0])]
      exact brT rfl (hnext (fun hh => h0 hh.1))
end
section
variable {G : Gv} {h : AH} {L : GA}

theorem px_children {p : Nat} (W : G.WF) (hp : p < G.nP) (P : PrR h.c L G p) {Q : Int32 → AH → Prop} (hQ : Q (I (G.kn p)) h) : wp_X6_children (L.pa p) h Q := by
  have sf : h.fr 701 (L.pa p) = some (L.ql p) := P.sf
  have h3 := W.kn p hp
  refine ⟨nn_of rfl P.k, nn_of sf P.sl.k, ?_⟩
  rw [sf]
  refine pc_size (h := h.srm 0 0) P.sl (pu ?_)
  (try simp (disch := omega) only [L_le, le_L, L_lt, lt_L, eq_L, L_eq, I_le, I_lt, I_eq, I_ni, add_L, L_add, I_add, mul_L, L_mul, I_mul, sub_L, L_sub, I_sub, div_L, rem_L])
  exact hQ

theorem inV_atV (W : G.WF) {ind : Nat → Int32} {p c v : Nat} (hp : p < G.nP) (hc : c ≤ G.kn p) : jshl (G.atV ind (G.sy p c) v false) (I (c * 8)) = G.inV ind p c v := by
  have h3 := W.kn p hp
  have hs := W.sy p c hp hc
  have hi := W.ins _ hs
  have hic := W.ic _ hs
  apply bt_ext
  intro k hk
  rw [bt_shl _ (by omega), Gv.inV, ofB_bt _ hk]
  by_cases h1 : k < c * 8
  · have : ¬ k / 8 = c := by omega
    simp [h1, this]
  · rw [atV_bt (by omega)]
    rw [Bool.eq_iff_iff]
    simp only [hk, h1, decide_true, decide_false, Bool.not_false, Bool.and_true, Bool.true_and, decide_eq_true_eq, decide_eq_false_iff_not]
    constructor
    · rintro ⟨a, b, e⟩
      have : k - c * 8 = k % 8 := by omega
      rw [this] at e b
      exact ⟨by omega, by omega, e⟩
    · rintro ⟨a, b, e⟩
      have : k - c * 8 = k % 8 := by omega
      rw [this]
      exact ⟨by omega, by omega, e⟩

theorem ouV_atV (W : G.WF) {ind : Nat → Int32} {p c v : Nat} (hp : p < G.nP) (hc : c ≤ G.kn p) : jshl (G.atV ind (G.sy p c) v true) (I (c * 8)) = G.ouV ind p c v := by
  have h3 := W.kn p hp
  have hs := W.sy p c hp hc
  have hi := W.ins _ hs
  have hic := W.ic _ hs
  have hc8 := W.cnt8 hs
  apply bt_ext
  intro k hk
  rw [bt_shl _ (by omega), Gv.ouV, ofB_bt _ hk]
  by_cases h1 : k < c * 8
  · have : ¬ k / 8 = c := by omega
    simp [h1, this]
  · rw [atV_bt (by omega)]
    rw [Bool.eq_iff_iff]
    simp only [hk, h1, decide_true, decide_false, Bool.not_false, Bool.and_true, Bool.true_and, decide_eq_true_eq]
    constructor
    · rintro ⟨a, b, e⟩
      have : k - c * 8 = k % 8 := by omega
      rw [this] at e b
      exact ⟨by omega, by omega, by omega, e⟩
    · rintro ⟨a, b, b', e⟩
      have : k - c * 8 = k % 8 := by omega
      rw [this]
      exact ⟨by omega, by omega, e⟩
theorem jshl0 (x : Int32) : jshl x (I (0 * 8)) = x := by
  apply bt_ext
  intro k hk
  rw [bt_shl _ (by omega)]; simp [hk]
theorem inV0 (W : G.WF) {ind : Nat → Int32} {p v : Nat} (hp : p < G.nP) : G.atV ind (G.sy p 0) v false = G.inV ind p 0 v := by
  rw [← inV_atV W hp (Nat.zero_le _), jshl0]
theorem ouV0 (W : G.WF) {ind : Nat → Int32} {p v : Nat} (hp : p < G.nP) : G.atV ind (G.sy p 0) v true = G.ouV ind p 0 v := by
  rw [← ouV_atV W hp (Nat.zero_le _), jshl0]

/-- a planner under way. -/
def PlR (c : HC) (L : GA) (o w p : Nat) (x : PSt) : Prop :=
  ((c.kd o).1 = 13) ∧
  (o < c.sz) ∧
  (c.fr 1300 o = some (L.pa p)) ∧
  (c.fi 1301 o = x.2.1) ∧
  (c.fi 1302 o = I x.1) ∧
  (c.fr 1303 o = some w) ∧
  (c.kd w = (40, 4)) ∧
  (w < c.sz) ∧
  (∀ i, i < 4 → c.ai w i = I (x.2.2.1 i)) ∧
  (c.fi 706 (L.pa p) = I x.2.2.2.length) ∧
  (c.fr 705 (L.pa p) = some (L.pp p)) ∧
  (c.kd (L.pp p) = (40, 104)) ∧
  (L.pp p < c.sz) ∧
  (∀ i, i < x.2.2.2.length → c.ai (L.pp p) i = x.2.2.2.getD i 0)
theorem PlR.k {c : HC} {L : GA} {o w p : Nat} {x : PSt} (h9 : PlR c L o w p x) : (c.kd o).1 = 13 := h9.1
theorem PlR.l {c : HC} {L : GA} {o w p : Nat} {x : PSt} (h9 : PlR c L o w p x) : o < c.sz := h9.2.1
theorem PlR.p0 {c : HC} {L : GA} {o w p : Nat} {x : PSt} (h9 : PlR c L o w p x) : c.fr 1300 o = some (L.pa p) := h9.2.2.1
theorem PlR.kn {c : HC} {L : GA} {o w p : Nat} {x : PSt} (h9 : PlR c L o w p x) : c.fi 1301 o = x.2.1 := h9.2.2.2.1
theorem PlR.vi {c : HC} {L : GA} {o w p : Nat} {x : PSt} (h9 : PlR c L o w p x) : c.fi 1302 o = I x.1 := h9.2.2.2.2.1
theorem PlR.w0 {c : HC} {L : GA} {o w p : Nat} {x : PSt} (h9 : PlR c L o w p x) : c.fr 1303 o = some w := h9.2.2.2.2.2.1
theorem PlR.w1 {c : HC} {L : GA} {o w p : Nat} {x : PSt} (h9 : PlR c L o w p x) : c.kd w = (40, 4) := h9.2.2.2.2.2.2.1
theorem PlR.w2 {c : HC} {L : GA} {o w p : Nat} {x : PSt} (h9 : PlR c L o w p x) : w < c.sz := h9.2.2.2.2.2.2.2.1
theorem PlR.w3 {c : HC} {L : GA} {o w p : Nat} {x : PSt} (h9 : PlR c L o w p x) : ∀ i, i < 4 → c.ai w i = I (x.2.2.1 i) := h9.2.2.2.2.2.2.2.2.1
theorem PlR.s0 {c : HC} {L : GA} {o w p : Nat} {x : PSt} (h9 : PlR c L o w p x) : c.fi 706 (L.pa p) = I x.2.2.2.length := h9.2.2.2.2.2.2.2.2.2.1
theorem PlR.s1 {c : HC} {L : GA} {o w p : Nat} {x : PSt} (h9 : PlR c L o w p x) : c.fr 705 (L.pa p) = some (L.pp p) := h9.2.2.2.2.2.2.2.2.2.2.1
theorem PlR.s2 {c : HC} {L : GA} {o w p : Nat} {x : PSt} (h9 : PlR c L o w p x) : c.kd (L.pp p) = (40, 104) := h9.2.2.2.2.2.2.2.2.2.2.2.1
theorem PlR.s3 {c : HC} {L : GA} {o w p : Nat} {x : PSt} (h9 : PlR c L o w p x) : L.pp p < c.sz := h9.2.2.2.2.2.2.2.2.2.2.2.2.1
theorem PlR.s4 {c : HC} {L : GA} {o w p : Nat} {x : PSt} (h9 : PlR c L o w p x) : ∀ i, i < x.2.2.2.length → c.ai (L.pp p) i = x.2.2.2.getD i 0 := h9.2.2.2.2.2.2.2.2.2.2.2.2.2

/-- what a planner writes. -/
def WP (L : GA) (o w p : Nat) : Nat → Nat → Prop := fun f b => (f = 1301 ∧ b = o) ∨ (f = 1302 ∧ b = o) ∨ (f = 0 ∧ b = w) ∨ (f = 0 ∧ b = L.pp p) ∨ (f = 706 ∧ b = L.pa p)

theorem px_step {o w p : Nat} {x : PSt} {c0 : HC} (F : Fr (WP L o w p) c0 h.c) (R : PlR h.c L o w p x) (hk7 : (h.kd (L.pa p)).1 = 7) (hw : w ≠ L.pp p) (hl : x.2.2.2.length < 100) {v : Int32} {Q : AH → Prop}
    (hQ : ∀ h', Fr (WP L o w p) c0 h'.c → PlR h'.c L o w p (x.1, x.2.1, x.2.2.1, x.2.2.2 ++ [v]) → h'.rc = h.rc → h'.rs = h.rs → Q h') : wp_X13_step o v h Q := by
  have p0 : h.fr 1300 o = some (L.pa p) := R.p0
  have s0 : h.fi 706 (L.pa p) = I x.2.2.2.length := R.s0
  have s1 : h.fr 705 (L.pa p) = some (L.pp p) := R.s1
  unfold wp_X13_step
  simp only [p0, adr_some, s0, s1, sai_fr, sai_fi]
  refine ⟨nn_of rfl R.k, nn_of rfl hk7, ix_of rfl R.s2 (by omega) (by decide), ?_⟩
  rintro _ rfl
  simp only [p0, adr_some, s0, s1, sai_fr, sai_fi]
  refine ⟨nn_of rfl hk7, ?_⟩
  rintro _ rfl
  (try simp (disch := omega) only [L_le, le_L, L_lt, lt_L, eq_L, L_eq, I_le, I_lt, I_eq, I_ni, add_L, L_add, I_add, mul_L, L_mul, I_mul, sub_L, L_sub, I_sub, div_L, rem_L])
  refine hQ _ ((F.sai _ _ (fun _ => .inr (.inr (.inr (.inl ⟨rfl, rfl⟩))))).sfi _ (fun _ => .inr (.inr (.inr (.inr ⟨rfl, rfl⟩))))) ?_ rfl rfl
  refine ⟨R.k, R.l, R.p0, ?_, ?_, R.w0, R.w1, R.w2, ?_, ?_, R.s1, R.s2, R.s3, ?_⟩
  · rw [pc_fi, sfi_ne _ _ _ _ (by decide)]; exact R.kn
  · rw [pc_fi, sfi_ne _ _ _ _ (by decide)]; exact R.vi
  · intro i hi
    show (h.sai (L.pp p) x.2.2.2.length v).ai w i = _
    rw [sai_ai, if_neg hw]; exact R.w3 i hi
  · refine (sfi_same _ _ _ _).trans ?_
    simp
  · intro i hi
    simp only [List.length_append, List.length_singleton] at hi
    show (h.sai (L.pp p) x.2.2.2.length v).ai (L.pp p) i = _
    rw [sai_ai, if_pos rfl]
    by_cases e : i = x.2.2.2.length
    · subst e; rw [updN_same]; simp
    · rw [updN_ne _ _ e]
      have := R.s4 i (by omega)
      simp only [pc_ai] at this
      rw [this]
      simp only [List.getD_eq_getElem?_getD]
      rw [List.getElem?_append_left (by omega)]
end
section
variable {G : Gv} {h : AH} {L : GA}

theorem GW.wp {o w p : Nat} (D : GD L G) (hp : p < G.nP) (hwq : ∀ q, q < G.nP → w ≠ L.qd q ∧ w ≠ L.pk q) : GW (WP L o w p) L G := by
  have key : ∀ f a, f ≠ 1301 → f ≠ 1302 → f ≠ 706 → f ≠ 0 → ¬ WP L o w p f a := by
    rintro f a h1 h2 h3 h4 (hh | hh | hh | hh | hh)
    · exact h1 hh.1
    · exact h2 hh.1
    · exact h4 hh.1
    · exact h4 hh.1
    · exact h3 hh.1
  have key0 : ∀ a, a ≠ w → a ≠ L.pp p → ¬ WP L o w p 0 a := by
    rintro a h1 h2 (hh | hh | hh | hh | hh)
    · exact absurd hh.1 (by decide)
    · exact absurd hh.1 (by decide)
    · exact h1 hh.2
    · exact h2 hh.2
    · exact absurd hh.1 (by decide)
  refine ⟨fun a => ⟨key _ _ (by decide) (by decide) (by decide) (by decide), key _ _ (by decide) (by decide) (by decide) (by decide), key _ _ (by decide) (by decide) (by decide) (by decide), key _ _ (by decide) (by decide) (by decide) (by decide), key _ _ (by decide) (by decide) (by decide) (by decide), key _ _ (by decide) (by decide) (by decide) (by decide)⟩,
    fun s hs => key _ _ (by decide) (by decide) (by decide) (by decide), fun q hq => ⟨key _ _ (by decide) (by decide) (by decide) (by decide), key _ _ (by decide) (by decide) (by decide) (by decide), key0 _ (hwq q hq).1.symm (D.ppq p q hp hq).1.symm, key0 _ (hwq q hq).2.symm (D.ppq p q hp hq).2.symm⟩⟩

/-- what a planner reads of symbols. -/
def PlV (c : HC) (L : GA) (G : Gv) (ind : Nat → Int32) (p : Nat) : Prop :=
  (∀ k, k ≤ G.kn p → G.VB ind (G.sy p k)) ∧
  (∀ k, k ≤ G.kn p → c.fi 605 (L.sa (G.sy p k)) = I (G.vs ind (G.sy p k))) ∧
  (∀ k, k ≤ G.kn p → ∀ a, a < G.cnt (G.sy p k) → c.ai (L.sv (G.sy p k)) a = I (G.vo ind (G.sy p k) a))
theorem PlV.b {c : HC} {L : GA} {G : Gv} {ind : Nat → Int32} {p : Nat} (h9 : PlV c L G ind p) : ∀ k, k ≤ G.kn p → G.VB ind (G.sy p k) := h9.1
theorem PlV.n {c : HC} {L : GA} {G : Gv} {ind : Nat → Int32} {p : Nat} (h9 : PlV c L G ind p) : ∀ k, k ≤ G.kn p → c.fi 605 (L.sa (G.sy p k)) = I (G.vs ind (G.sy p k)) := h9.2.1
theorem PlV.v {c : HC} {L : GA} {G : Gv} {ind : Nat → Int32} {p : Nat} (h9 : PlV c L G ind p) : ∀ k, k ≤ G.kn p → ∀ a, a < G.cnt (G.sy p k) → c.ai (L.sv (G.sy p k)) a = I (G.vo ind (G.sy p k) a) := h9.2.2

theorem PlV.keep (W : G.WF) {Wr c c' ind p} (hp : p < G.nP) (S : GS c L G) (V : PlV c L G ind p) (F : Fr Wr c c') (h1 : ∀ a, ¬ Wr 605 a) (h2 : ∀ s, s < G.nS → ¬ Wr 0 (L.sv s)) : PlV c' L G ind p :=
  ⟨V.b, fun k hk => by rw [F.fi _ _ (S.sy _ (W.sy p k hp hk)).l (h1 _)]; exact V.n k hk, fun k hk a ha => by rw [F.ai _ (S.sy _ (W.sy p k hp hk)).v3 (h2 _ (W.sy p k hp hk))]; exact V.v k hk a ha⟩

/-- the addresses of a planner are its own. -/
def PlD (L : GA) (G : Gv) (w p : Nat) : Prop :=
  (∀ q, q < G.nP → w ≠ L.qd q ∧ w ≠ L.pk q) ∧
  (∀ s, s < G.nS → w ≠ L.sv s) ∧
  (w ≠ L.pp p)
theorem PlD.q {L : GA} {G : Gv} {w p : Nat} (h9 : PlD L G w p) : ∀ q, q < G.nP → w ≠ L.qd q ∧ w ≠ L.pk q := h9.1
theorem PlD.s {L : GA} {G : Gv} {w p : Nat} (h9 : PlD L G w p) : ∀ s, s < G.nS → w ≠ L.sv s := h9.2.1
theorem PlD.p {L : GA} {G : Gv} {w p : Nat} (h9 : PlD L G w p) : w ≠ L.pp p := h9.2.2

theorem WP.no605 {o w p : Nat} (a : Nat) : ¬ WP L o w p 605 a := by
  rintro (hh | hh | hh | hh | hh) <;> exact absurd hh.1 (by decide)
theorem WP.nosv {o w p : Nat} (D : GD L G) (X : PlD L G w p) (hp : p < G.nP) (s : Nat) (hs : s < G.nS) : ¬ WP L o w p 0 (L.sv s) := by
  rintro (hh | hh | hh | hh | hh)
  · exact absurd hh.1 (by decide)
  · exact absurd hh.1 (by decide)
  · exact X.s s hs hh.2.symm
  · exact (D.pps p s hp hs).2 hh.2.symm
  · exact absurd hh.1 (by decide)

theorem px_goesOn (W : G.WF) (D : GD L G) {o w p : Nat} (hp : p < G.nP) (X : PlD L G w p) {c0 : HC} (S0 : GS c0 L G) {ind : Nat → Int32} (V0 : PlV c0 L G ind p) {x : PSt} (F : Fr (WP L o w p) c0 h.c) (R : PlR h.c L o w p x)
    (hI : G.PlI ind p x) (hl : x.2.2.2.length < 100) {Q : Int32 → AH → Prop}
    (hQ0 : G.nxR p x.2.1 = none → G.nxC ind p x.2.1 x.2.2.1 = none → Q 0 h)
    (hQ1 : ∀ h' r, G.nxR p x.2.1 = some r → Fr (WP L o w p) c0 h'.c → PlR h'.c L o w p ⟨x.1, x.2.1 ||| jshl 1 (I r), x.2.2.1, x.2.2.2 ++ [I (100 + r)]⟩ → h'.rc = h.rc → h'.rs = h.rs → Q 1 h')
    (hQ2 : ∀ h' c, G.nxR p x.2.1 = none → G.nxC ind p x.2.1 x.2.2.1 = some c → Fr (WP L o w p) c0 h'.c → PlR h'.c L o w p ⟨x.1, x.2.1 ||| G.ouV ind p c (x.2.2.1 c + 1), updN x.2.2.1 c (x.2.2.1 c + 1), x.2.2.2 ++ [I (10 * c + (x.2.2.1 c + 1))]⟩ → h'.rc = h.rc → h'.rs = h.rs → Q 1 h') :
    wp_X13_goesOn o h Q := by
  have hk3 := W.kn p hp
  have S := S0.keep F (GW.wp D hp X.q)
  have P := S.pr p hp
  have V := V0.keep W hp S0 F WP.no605 (WP.nosv D X hp)
  have p0 : h.fr 1300 o = some (L.pa p) := R.p0
  have kn : h.fi 1301 o = x.2.1 := R.kn
  have w0 : h.fr 1303 o = some w := R.w0
  have sf : h.fr 701 (L.pa p) = some (L.ql p) := P.sf
  unfold wp_X13_goesOn
  refine xlp_cnt 32 (fun k q T => q = I k ∧ T = h ∧ fstN (fun o => decide (G.tl p o) && !bt x.2.1 o && sub (G.ask p o) x.2.1) k = none) ⟨rfl, rfl, rfl⟩ ?_
  rintro k _ T K hk ⟨rfl, rfl, hf⟩ hK
  by_cases e : k = 32
  · -- children
    subst e
    have hR0 : G.nxR p x.2.1 = none := hf
    refine brT (by (first | omega | ((try simp (disch := omega) only [L_le, le_L, L_lt, lt_L, eq_L, L_eq, I_le, I_lt, I_eq, I_ni, add_L, L_add, I_add, mul_L, L_mul, I_mul, sub_L, L_sub, I_sub, div_L, rem_L]); done) | ((try simp (disch := omega) only [L_le, le_L, L_lt, lt_L, eq_L, L_eq, I_le, I_lt, I_eq, I_ni, add_L, L_add, I_add, mul_L, L_mul, I_mul, sub_L, L_sub, I_sub, div_L, rem_L]); omega))) ?_
    refine xlp_cnt (G.kn p) (fun c q T' => q = I (c + 1) ∧ T' = T ∧ fstN (fun c => decide (1 ≤ c) && decide (x.2.2.1 c ≠ G.vs ind (G.sy p c)) && sub (G.inV ind p c (x.2.2.1 c + 1)) x.2.1) (c + 1) = none) ⟨rfl, rfl, rfl⟩ ?_
    rintro n _ T' K2 hn ⟨rfl, rfl, hf2⟩ hK2
    refine ⟨nn_of rfl R.k, nn_of p0 P.k, ?_⟩
    rw [p0, adr_some]
    refine px_children (h := T'.srm 0 0) W hp P (pu ?_)
    by_cases e : n = G.kn p
    · subst e
      exact brT (by (first | omega | ((try simp (disch := omega) only [L_le, le_L, L_lt, lt_L, eq_L, L_eq, I_le, I_lt, I_eq, I_ni, add_L, L_add, I_add, mul_L, L_mul, I_mul, sub_L, L_sub, I_sub, div_L, rem_L]); done) | ((try simp (disch := omega) only [L_le, le_L, L_lt, lt_L, eq_L, L_eq, I_le, I_lt, I_eq, I_ni, add_L, L_add, I_add, mul_L, L_mul, I_mul, sub_L, L_sub, I_sub, div_L, rem_L]); omega))) (hQ0 hR0 hf2)
    have hn' : n + 1 ≤ G.kn p := by omega
    refine brF (by (first | omega | ((try simp (disch := omega) only [L_le, le_L, L_lt, lt_L, eq_L, L_eq, I_le, I_lt, I_eq, I_ni, add_L, L_add, I_add, mul_L, L_mul, I_mul, sub_L, L_sub, I_sub, div_L, rem_L]); done) | ((try simp (disch := omega) only [L_le, le_L, L_lt, lt_L, eq_L, L_eq, I_le, I_lt, I_eq, I_ni, add_L, L_add, I_add, mul_L, L_mul, I_mul, sub_L, L_sub, I_sub, div_L, rem_L]); omega))) ⟨nn_of rfl R.k, nn_of p0 P.k, ?_⟩
    rw [p0, adr_some, sf, adr_some]
    refine ⟨nn_of rfl P.sl.k, ?_⟩
    refine px_sym (h := T'.srm 0 0) P hn' (pu ?_)
    have hsy := W.sy p _ hp hn'
    have Y := S.sy _ hsy
    have vb := V.b _ hn'
    have vn : T'.fi 605 (L.sa (G.sy p (n + 1))) = I (G.vs ind (G.sy p (n + 1))) := V.n _ hn'
    have b9 := vb.vs9
    have hwt := hI.wt (n + 1) (by omega) hn'
    have w3 : T'.ai w (n + 1) = I (x.2.2.1 (n + 1)) := R.w3 _ (by omega)
    refine ⟨.inr (nn_of rfl Y.k), nn_of rfl R.k, ?_⟩
    rw [w0]
    refine ⟨ix_of rfl R.w1 (by omega) (by decide), nn_of rfl Y.k, ?_⟩
    rw [adr_some, vn, adr_some, I_ni (by omega), w3]
    have hnext : ¬ ((x.2.2.1 (n + 1) ≠ G.vs ind (G.sy p (n + 1))) ∧ sub (G.inV ind p (n + 1) (x.2.2.1 (n + 1) + 1)) x.2.1 = true) → K2 (I (n + 1 + 1)) T' := by
      intro hc
      refine hK2 _ _ (by omega) ⟨rfl, rfl, fstN_none.2 (fun j hj => ?_)⟩
      by_cases e : j = n + 1
      · subst e
        cases hh : (decide (1 ≤ n + 1) && decide (x.2.2.1 (n + 1) ≠ G.vs ind (G.sy p (n + 1))) && sub (G.inV ind p (n + 1) (x.2.2.1 (n + 1) + 1)) x.2.1) with
        | false => rfl
        | true =>
          simp only [Bool.and_eq_true, decide_eq_true_eq] at hh
          exact absurd ⟨hh.1.2, hh.2⟩ hc
      · exact fstN_none.1 hf2 j (by omega)
    (try simp (disch := omega) only [L_le, le_L, L_lt, lt_L, eq_L, L_eq, I_le, I_lt, I_eq, I_ni, add_L, L_add, I_add, mul_L, L_mul, I_mul, sub_L, L_sub, I_sub, div_L, rem_L])
    by_cases e1 : G.vs ind (G.sy p (n + 1)) < x.2.2.1 (n + 1) + 1
    · exact brT e1 (hnext (fun hh => hh.1 (by omega)))
    refine brF e1 ?_
    refine px_of (h := T'.srm 0 0) W hsy Y vb (V.v _ hn') (by omega) false (pu ⟨nn_of rfl R.k, ?_⟩)
    rw [inV_atV W hp hn', kn]
    by_cases e2 : sub (G.inV ind p (n + 1) (x.2.2.1 (n + 1) + 1)) x.2.1 = true
    · refine brT (by unfold sub at e2; exact of_decide_eq_true e2) ?_
      rw [w0]
      refine ⟨ix_of rfl R.w1 (by omega) (by decide), ?_⟩
      rintro _ rfl
      rw [adr_some]
      have F2 : Fr (WP L o w p) c0 (T'.sai w (n + 1) (I (x.2.2.1 (n + 1) + 1))).c := F.sai _ _ (fun _ => .inr (.inr (.inl ⟨rfl, rfl⟩)))
      have S2 := S0.keep F2 (GW.wp D hp X.q)
      have V2 := V0.keep W hp S0 F2 WP.no605 (WP.nosv D X hp)
      have Y2 := S2.sy _ hsy
      refine ⟨nn_of rfl Y2.k, ?_⟩
      refine px_of (h := (T'.sai w (n + 1) (I (x.2.2.1 (n + 1) + 1))).srm 0 0) W hsy Y2 vb (V2.v _ hn') (by omega) true (pu ⟨nn_of rfl R.k, ?_⟩)
      rw [ouV_atV W hp hn']
      rintro _ rfl
      have hfi : (T'.sai w (n + 1) (I (x.2.2.1 (n + 1) + 1))).fi 1301 o = x.2.1 := kn
      rw [hfi]
      have hnc : G.nxC ind p x.2.1 x.2.2.1 = some (n + 1) := by
        unfold Gv.nxC
        exact (fstN_some (P := fun c => decide (1 ≤ c) && decide (x.2.2.1 c ≠ G.vs ind (G.sy p c)) && sub (G.inV ind p c (x.2.2.1 c + 1)) x.2.1)).2 ⟨by omega, by
          have : x.2.2.1 (n + 1) ≠ G.vs ind (G.sy p (n + 1)) := by omega
          simp [this, e2], fstN_none.1 hf2⟩
      have F3 : Fr (WP L o w p) c0 ((T'.sai w (n + 1) (I (x.2.2.1 (n + 1) + 1))).sfi 1301 o (x.2.1 ||| G.ouV ind p (n + 1) (x.2.2.1 (n + 1) + 1))).c := F2.sfi _ (fun _ => .inl ⟨rfl, rfl⟩)
      have R3 : PlR ((T'.sai w (n + 1) (I (x.2.2.1 (n + 1) + 1))).sfi 1301 o (x.2.1 ||| G.ouV ind p (n + 1) (x.2.2.1 (n + 1) + 1))).c L o w p ⟨x.1, x.2.1 ||| G.ouV ind p (n + 1) (x.2.2.1 (n + 1) + 1), updN x.2.2.1 (n + 1) (x.2.2.1 (n + 1) + 1), x.2.2.2⟩ := by
        refine ⟨R.k, R.l, R.p0, sfi_same _ _ _ _, by rw [pc_fi, sfi_ne _ _ _ _ (by decide)]; exact R.vi, R.w0, R.w1, R.w2, ?_, by rw [pc_fi, sfi_ne _ _ _ _ (by decide)]; exact R.s0, R.s1, R.s2, R.s3, ?_⟩
        · intro i hi
          show (T'.sai w (n + 1) (I (x.2.2.1 (n + 1) + 1))).ai w i = _
          rw [sai_ai, if_pos rfl]
          simp only [updN]
          by_cases e : i = n + 1
          · rw [if_pos e, if_pos e]
          · rw [if_neg e, if_neg e]; exact R.w3 i hi
        · intro i hi
          show (T'.sai w (n + 1) (I (x.2.2.1 (n + 1) + 1))).ai (L.pp p) i = _
          rw [sai_ai, if_neg X.p.symm]; exact R.s4 i hi
      have k7 : (((T'.sai w (n + 1) (I (x.2.2.1 (n + 1) + 1))).sfi 1301 o (x.2.1 ||| G.ouV ind p (n + 1) (x.2.2.1 (n + 1) + 1))).kd (L.pa p)).1 = 7 := P.k
      refine px_step (h := ((T'.sai w (n + 1) (I (x.2.2.1 (n + 1) + 1))).sfi 1301 o (x.2.1 ||| G.ouV ind p (n + 1) (x.2.2.1 (n + 1) + 1))).srm 0 0) F3 R3 k7 X.p hl ?_
      intro h' F' R' c' s'
      rintro _ rfl
      exact hQ2 _ (n + 1) hR0 hnc F' R' rfl rfl
    · refine brF (fun hh => e2 (by unfold sub; exact decide_eq_true hh)) (hnext (fun hh => e2 hh.2))
  have hk32 : k < 32 := by omega
  refine brF (by (first | omega | ((try simp (disch := omega) only [L_le, le_L, L_lt, lt_L, eq_L, L_eq, I_le, I_lt, I_eq, I_ni, add_L, L_add, I_add, mul_L, L_mul, I_mul, sub_L, L_sub, I_sub, div_L, rem_L]); done) | ((try simp (disch := omega) only [L_le, le_L, L_lt, lt_L, eq_L, L_eq, I_le, I_lt, I_eq, I_ni, add_L, L_add, I_add, mul_L, L_mul, I_mul, sub_L, L_sub, I_sub, div_L, rem_L]); omega))) ⟨nn_of rfl R.k, nn_of p0 P.k, ?_⟩
  rw [p0, adr_some]
  refine px_isTold (h := T.srm 0 0) W S hp (by omega) (pu ?_)
  have hnext : (decide (G.tl p k) && !bt x.2.1 k && sub (G.ask p k) x.2.1) = false → K (I (k + 1)) T := by
    intro hh
    refine hK _ _ hk32 ⟨rfl, rfl, fstN_none.2 (fun j hj => ?_)⟩
    by_cases e : j = k
    · rw [e]; exact hh
    · exact fstN_none.1 hf j (by omega)
  (try simp (disch := omega) only [L_le, le_L, L_lt, lt_L, eq_L, L_eq, I_le, I_lt, I_eq, I_ni, add_L, L_add, I_add, mul_L, L_mul, I_mul, sub_L, L_sub, I_sub, div_L, rem_L])
  by_cases ht : G.tl p k
  · rw [if_pos ht]
    refine brF (by decide) ⟨nn_of rfl R.k, ?_⟩
    rw [kn]
    refine px_has (h := T.srm 0 0) hk32 (pu ?_)
    cases hb : bt x.2.1 k with
    | true => exact brF (by decide) (hnext (by simp [hb]))
    | false =>
      refine brT rfl ⟨nn_of rfl R.k, nn_of p0 P.k, ?_⟩
      rw [p0, adr_some]
      refine px_asked (h := T.srm 0 0) P hk32 (pu ⟨nn_of rfl R.k, ?_⟩)
      rw [kn]
      by_cases e2 : sub (G.ask p k) x.2.1 = true
      · refine brT (by unfold sub at e2; exact of_decide_eq_true e2) ?_
        rintro _ rfl
        have hnr : G.nxR p x.2.1 = some k := by
          unfold Gv.nxR
          exact (fstN_some (P := fun o => decide (G.tl p o) && !bt x.2.1 o && sub (G.ask p o) x.2.1)).2 ⟨hk32, by simp [ht, hb, e2], fstN_none.1 hf⟩
        have F3 : Fr (WP L o w p) c0 (T.sfi 1301 o (x.2.1 ||| jshl 1 (I k))).c := F.sfi _ (fun _ => .inl ⟨rfl, rfl⟩)
        have R3 : PlR (T.sfi 1301 o (x.2.1 ||| jshl 1 (I k))).c L o w p ⟨x.1, x.2.1 ||| jshl 1 (I k), x.2.2.1, x.2.2.2⟩ :=
          ⟨R.k, R.l, R.p0, sfi_same _ _ _ _, by rw [pc_fi, sfi_ne _ _ _ _ (by decide)]; exact R.vi, R.w0, R.w1, R.w2, R.w3, by rw [pc_fi, sfi_ne _ _ _ _ (by decide)]; exact R.s0, R.s1, R.s2, R.s3, R.s4⟩
        refine px_step (h := (T.sfi 1301 o (x.2.1 ||| jshl 1 (I k))).srm 0 0) F3 R3 P.k X.p hl ?_
        intro h' F' R' c' s'
        rintro _ rfl
        exact hQ1 _ k hnr F' R' rfl rfl
      · exact brF (fun hh => e2 (by unfold sub; exact decide_eq_true hh)) (hnext (by simp [e2]))
  · rw [if_neg ht]
    exact brT rfl (hnext (by simp [ht]))
end
section
variable {G : Gv} {h : AH} {L : GA}

theorem px_plans (W : G.WF) (D : GD L G) {o w p : Nat} (hp : p < G.nP) (X : PlD L G w p) (S0 : GS h.c L G) {ind : Nat → Int32} (V0 : PlV h.c L G ind p)
    (k : (h.kd o).1 = 13) (l : o < h.sz) (p0 : h.fr 1300 o = some (L.pa p)) (vi : h.fi 1302 o = 1) (w0 : h.fr 1303 o = some w) (w1 : h.kd w = (40, 4)) (w2 : w < h.sz) (w3 : ∀ i, i < 4 → h.ai w i = 0)
    (s1 : h.fr 705 (L.pa p) = some (L.pp p)) (s2 : h.kd (L.pp p) = (40, 104)) (s3 : L.pp p < h.sz) {Q : AH → Prop}
    (hQ : ∀ h' x, Fr (WP L o w p) h.c h'.c → G.IsPl ind p x → x.2.2.2.length ≤ 68 → PlR h'.c L o w p x → h'.rc = h.rc → h'.rs = h.rs → Q h') : wp_X13_plans o h Q := by
  have P := S0.pr p hp
  have hk3 := W.kn p hp
  have sf : h.fr 701 (L.pa p) = some (L.ql p) := P.sf
  have hM0 := Gv.plM0 W hp V0.b
  have hs0 := W.sy p 0 hp (Nat.zero_le _)
  have vb0 := V0.b 0 (Nat.zero_le _)
  have b9 := vb0.vs9
  unfold wp_X13_plans
  refine ⟨nn_of rfl k, nn_of p0 P.k, ?_⟩
  rw [p0, adr_some, sf, adr_some]
  refine ⟨nn_of rfl P.sl.k, ?_⟩
  refine px_sym (h := h.srm 0 0) P (k := 0) (Nat.zero_le _) (pu ?_)
  have Y := S0.sy _ hs0
  refine ⟨.inr (nn_of rfl Y.k), nn_of rfl k, nn_of p0 P.k, ?_⟩
  rintro _ rfl
  rw [p0, adr_some, adr_some]
  have F1 : Fr (WP L o w p) h.c (h.sfi 706 (L.pa p) 0).c := (Fr.refl _).sfi _ (fun _ => .inr (.inr (.inr (.inr ⟨rfl, rfl⟩))))
  have S1 := S0.keep F1 (GW.wp D hp X.q)
  have V1 := V0.keep W hp S0 F1 WP.no605 (WP.nosv D X hp)
  have Y1 := S1.sy _ hs0
  refine ⟨nn_of rfl Y1.k, ?_⟩
  refine px_of (h := (h.sfi 706 (L.pa p) 0).srm 0 0) (v := 1) W hs0 Y1 vb0 (V1.v 0 (Nat.zero_le _)) (by omega) false (pu ⟨nn_of rfl k, ?_⟩)
  rintro _ rfl
  rw [inV0 W hp]
  have F2 : Fr (WP L o w p) h.c ((h.sfi 706 (L.pa p) 0).sfi 1301 o (G.inV ind p 0 1)).c := F1.sfi _ (fun _ => .inl ⟨rfl, rfl⟩)
  have R2 : PlR ((h.sfi 706 (L.pa p) 0).sfi 1301 o (G.inV ind p 0 1)).c L o w p (G.pl0 ind p) := by
    refine ⟨k, l, p0, sfi_same _ _ _ _, ?_, w0, w1, w2, w3, ?_, s1, s2, s3, fun i hi => absurd hi (by simp [Gv.pl0])⟩
    · rw [pc_fi, sfi_ne _ _ _ _ (by decide), sfi_ne _ _ _ _ (by decide)]; exact vi
    · rw [pc_fi, sfi_ne _ _ _ _ (by decide), sfi_same]; rfl
  refine ⟨fun n _ T => ∃ j, (∀ i, i < j → (G.plK ind p i).1 ≤ G.vs ind (G.sy p 0)) ∧ Fr (WP L o w p) h.c T.c ∧ PlR T.c L o w p (G.plK ind p j) ∧ n = G.plM ind p (G.plK ind p j) ∧ T.rc = h.rc ∧ T.rs = h.rs, ⟨G.plM ind p (G.pl0 ind p), 0, fun i hi => by omega, F2, R2, rfl, rfl, rfl⟩, ?_⟩
  rintro n _ T ⟨j, hj, F, R, rfl, rc, rs⟩
  obtain ⟨hPI, hlen⟩ := Gv.plK_all W hp j hj
  have S := S0.keep F (GW.wp D hp X.q)
  have PT := S.pr p hp
  have V := V0.keep W hp S0 F WP.no605 (WP.nosv D X hp)
  have YT := S.sy _ hs0
  have vn : T.fi 605 (L.sa (G.sy p 0)) = I (G.vs ind (G.sy p 0)) := V.n 0 (Nat.zero_le _)
  have rv : T.fi 1302 o = I (G.plK ind p j).1 := R.vi
  have rk : T.fi 1301 o = (G.plK ind p j).2.1 := R.kn
  have hvp := hPI.vp
  have hvu := hPI.vu
  refine ⟨nn_of rfl R.k, nn_of rfl YT.k, ?_⟩
  rw [vn, rv]
  by_cases hend : G.vs ind (G.sy p 0) < (G.plK ind p j).1
  · exact brT (by (first | omega | ((try simp (disch := omega) only [L_le, le_L, L_lt, lt_L, eq_L, L_eq, I_le, I_lt, I_eq, I_ni, add_L, L_add, I_add, mul_L, L_mul, I_mul, sub_L, L_sub, I_sub, div_L, rem_L]); done) | ((try simp (disch := omega) only [L_le, le_L, L_lt, lt_L, eq_L, L_eq, I_le, I_lt, I_eq, I_ni, add_L, L_add, I_add, mul_L, L_mul, I_mul, sub_L, L_sub, I_sub, div_L, rem_L]); omega))) (hQ T _ F ⟨j, rfl, hend, hj⟩ (by omega) R rc rs)
  have hvis : (G.plK ind p j).1 ≤ G.vs ind (G.sy p 0) := by omega
  obtain ⟨hPI', hM'⟩ := Gv.plS_inv W hp hPI hvis
  have hj' : ∀ i, i < j + 1 → (G.plK ind p i).1 ≤ G.vs ind (G.sy p 0) := by
    intro i hi
    by_cases e : i = j
    · rw [e]; exact hvis
    · exact hj i (by omega)
  have hll : (G.plK ind p j).2.2.2.length < 100 := by omega
  have fin : ∀ (T' : AH) (x : PSt), G.plS ind p (G.plK ind p j) = x → Fr (WP L o w p) h.c T'.c → PlR T'.c L o w p x → T'.rc = h.rc → T'.rs = h.rs →
      ∃ m, m < G.plM ind p (G.plK ind p j) ∧ ∃ j, (∀ i, i < j → (G.plK ind p i).1 ≤ G.vs ind (G.sy p 0)) ∧ Fr (WP L o w p) h.c T'.c ∧ PlR T'.c L o w p (G.plK ind p j) ∧ m = G.plM ind p (G.plK ind p j) ∧ T'.rc = h.rc ∧ T'.rs = h.rs := by
    intro T' x hx h1 h2 h3 h4
    subst hx
    exact ⟨_, hM', j + 1, hj', h1, h2, rfl, h3, h4⟩
  refine brF (by (first | omega | ((try simp (disch := omega) only [L_le, le_L, L_lt, lt_L, eq_L, L_eq, I_le, I_lt, I_eq, I_ni, add_L, L_add, I_add, mul_L, L_mul, I_mul, sub_L, L_sub, I_sub, div_L, rem_L]); done) | ((try simp (disch := omega) only [L_le, le_L, L_lt, lt_L, eq_L, L_eq, I_le, I_lt, I_eq, I_ni, add_L, L_add, I_add, mul_L, L_mul, I_mul, sub_L, L_sub, I_sub, div_L, rem_L]); omega))) ?_
  refine px_of (h := T.srm 0 0) W hs0 YT vb0 (V.v 0 (Nat.zero_le _)) (by omega) true (pu ⟨nn_of rfl R.k, ?_⟩)
  rw [ouV0 W hp]
  rintro m25 rfl
  rw [rk, vn, rv]
  refine ⟨nn_of rfl YT.k, ?_⟩
  -- how a visit is left
  have leave : ∀ (T' : AH) (C : AH → Prop), T'.c = T.c → T'.rc = h.rc → T'.rs = h.rs → (((G.plK ind p j).1 < G.vs ind (G.sy p 0) ∧ sub (G.ouV ind p 0 (G.plK ind p j).1) (G.plK ind p j).2.1 = true) ∨ (G.nxR p (G.plK ind p j).2.1 = none ∧ G.nxC ind p (G.plK ind p j).2.1 (G.plK ind p j).2.2.1 = none)) →
      (∀ T2 : AH, (∃ m, m < G.plM ind p (G.plK ind p j) ∧ ∃ j, (∀ i, i < j → (G.plK ind p i).1 ≤ G.vs ind (G.sy p 0)) ∧ Fr (WP L o w p) h.c T2.c ∧ PlR T2.c L o w p (G.plK ind p j) ∧ m = G.plM ind p (G.plK ind p j) ∧ T2.rc = h.rc ∧ T2.rs = h.rs) → C T2) →
      wp_X13_step o (1000 + I (G.plK ind p j).1) (T'.srm 0 0) fun h49 => ∀ h50, h50 = h49.srm T'.rc T'.rs →
        nn h50 (some o) 13 ∧ ∀ h52, h52 = h50.sfi 1302 o ((h50.fi 1302 o) + 1) → nn h52 (some (L.sa (G.sy p 0))) 6 ∧
        (((h52.fi 605 (L.sa (G.sy p 0))) < (h52.fi 1302 o) → ∀ h55, h55 = h52.sfi 1301 o ((h52.fi 1301 o) ||| 0) → C h55) ∧ (¬ (h52.fi 605 (L.sa (G.sy p 0))) < (h52.fi 1302 o) →
        wp_X5_of (L.sa (G.sy p 0)) (h52.fi 1302 o) 0 (h52.srm 0 0) fun r56 h57 => ∀ h58, h58 = h57.srm h52.rc h52.rs → nn h58 (some o) 13 ∧ ∀ h60, h60 = h58.sfi 1301 o ((h52.fi 1301 o) ||| r56) → C h60)) := by
    intro T' C hT' hrc hrs hcond hC
    have hx : G.plS ind p (G.plK ind p j) = ⟨(G.plK ind p j).1 + 1, (G.plK ind p j).2.1 ||| G.inV ind p 0 ((G.plK ind p j).1 + 1), (G.plK ind p j).2.2.1, (G.plK ind p j).2.2.2 ++ [I (1000 + (G.plK ind p j).1)]⟩ := by
      unfold Gv.plS; rw [if_pos hcond]
    have FT' : Fr (WP L o w p) h.c (T'.srm 0 0).c := by rw [pc_srm, hT']; exact F
    have RT' : PlR (T'.srm 0 0).c L o w p (G.plK ind p j) := by rw [pc_srm, hT']; exact R
    have k7 : ((T'.srm 0 0).kd (L.pa p)).1 = 7 := by
      have : T'.kd = T.kd := congrArg HC.kd hT'
      show (T'.kd _).1 = 7
      rw [this]; exact PT.k
    refine px_step (h := T'.srm 0 0) FT' RT' k7 X.p hll ?_
    intro h49 F49 R49 _ _
    rintro _ rfl
    refine ⟨nn_of rfl R49.k, ?_⟩
    rintro _ rfl
    have v49 : h49.fi 1302 o = I (G.plK ind p j).1 := R49.vi
    have n49 : h49.fi 605 (L.sa (G.sy p 0)) = I (G.vs ind (G.sy p 0)) := (V0.keep W hp S0 F49 WP.no605 (WP.nosv D X hp)).n 0 (Nat.zero_le _)
    have k49 : h49.fi 1301 o = (G.plK ind p j).2.1 := R49.kn
    have S49 := S0.keep F49 (GW.wp D hp X.q)
    have e52 : ((h49.srm T'.rc T'.rs).sfi 1302 o ((h49.srm T'.rc T'.rs).fi 1302 o + 1)) = (h49.srm T'.rc T'.rs).sfi 1302 o (I ((G.plK ind p j).1 + 1)) := by
      show AH.sfi _ _ _ (h49.fi 1302 o + 1) = _
      rw [v49]; (try simp (disch := omega) only [L_le, le_L, L_lt, lt_L, eq_L, L_eq, I_le, I_lt, I_eq, I_ni, add_L, L_add, I_add, mul_L, L_mul, I_mul, sub_L, L_sub, I_sub, div_L, rem_L])
    rw [e52]
    generalize hh52 : (h49.srm T'.rc T'.rs).sfi 1302 o (I ((G.plK ind p j).1 + 1)) = h52
    have F52 : Fr (WP L o w p) h.c h52.c := by
      rw [← hh52]; exact Fr.sfi (h := h49.srm T'.rc T'.rs) F49 _ (fun _ => .inr (.inl ⟨rfl, rfl⟩))
    have S52 := S0.keep F52 (GW.wp D hp X.q)
    have V52 := V0.keep W hp S0 F52 WP.no605 (WP.nosv D X hp)
    have Y52 := S52.sy _ hs0
    have n52 : h52.fi 605 (L.sa (G.sy p 0)) = I (G.vs ind (G.sy p 0)) := V52.n 0 (Nat.zero_le _)
    have v52 : h52.fi 1302 o = I ((G.plK ind p j).1 + 1) := by rw [← hh52]; exact sfi_same _ _ _ _
    have k52 : h52.fi 1301 o = (G.plK ind p j).2.1 := by rw [← hh52, sfi_ne _ _ _ _ (by decide)]; exact k49
    have c52 : h52.rc = h.rc := by rw [← hh52]; exact hrc
    have s52 : h52.rs = h.rs := by rw [← hh52]; exact hrs
    have endR : ∀ v : Int32, PlR (h52.sfi 1301 o v).c L o w p ⟨(G.plK ind p j).1 + 1, v, (G.plK ind p j).2.2.1, (G.plK ind p j).2.2.2 ++ [I (1000 + (G.plK ind p j).1)]⟩ := by
      intro v
      have el : (1000 : Int32) + I (G.plK ind p j).1 = I (1000 + (G.plK ind p j).1) := L_add 1000 _
      rw [el] at R49
      subst hh52
      refine ⟨R49.k, R49.l, R49.p0, sfi_same _ _ _ _, ?_, R49.w0, R49.w1, R49.w2, R49.w3, ?_, R49.s1, R49.s2, R49.s3, R49.s4⟩
      · rw [pc_fi, sfi_ne _ _ _ _ (by decide), sfi_same]
      · rw [pc_fi, sfi_ne _ _ _ _ (by decide), sfi_ne _ _ _ _ (by decide)]; exact R49.s0
    refine ⟨nn_of rfl Y52.k, ?_⟩
    rw [n52, v52, k52]
    by_cases e : G.vs ind (G.sy p 0) < (G.plK ind p j).1 + 1
    · refine brT (by (first | omega | ((try simp (disch := omega) only [L_le, le_L, L_lt, lt_L, eq_L, L_eq, I_le, I_lt, I_eq, I_ni, add_L, L_add, I_add, mul_L, L_mul, I_mul, sub_L, L_sub, I_sub, div_L, rem_L]); done) | ((try simp (disch := omega) only [L_le, le_L, L_lt, lt_L, eq_L, L_eq, I_le, I_lt, I_eq, I_ni, add_L, L_add, I_add, mul_L, L_mul, I_mul, sub_L, L_sub, I_sub, div_L, rem_L]); omega))) ?_
      rintro _ rfl
      refine hC _ (fin _ _ hx (F52.sfi _ (fun _ => .inl ⟨rfl, rfl⟩)) ?_ c52 s52)
      have hz : G.inV ind p 0 ((G.plK ind p j).1 + 1) = 0 := by
        refine ofBN_zero' (fun y _ => decide_eq_false (fun hh => ?_))
        have h1 := W.ic _ hs0
        have := vb0.vo9 (y % 8) (by omega)
        omega
      rw [hz]
      exact endR _
    · refine brF (by (first | omega | ((try simp (disch := omega) only [L_le, le_L, L_lt, lt_L, eq_L, L_eq, I_le, I_lt, I_eq, I_ni, add_L, L_add, I_add, mul_L, L_mul, I_mul, sub_L, L_sub, I_sub, div_L, rem_L]); done) | ((try simp (disch := omega) only [L_le, le_L, L_lt, lt_L, eq_L, L_eq, I_le, I_lt, I_eq, I_ni, add_L, L_add, I_add, mul_L, L_mul, I_mul, sub_L, L_sub, I_sub, div_L, rem_L]); omega))) ?_
      refine px_of (h := h52.srm 0 0) W hs0 Y52 vb0 (V52.v 0 (Nat.zero_le _)) (by omega) false (pu ⟨?_, ?_⟩)
      · have := (endR 0).k
        exact nn_of rfl this
      rintro _ rfl
      rw [inV0 W hp]
      exact hC _ (fin _ _ hx (F52.sfi _ (fun _ => .inl ⟨rfl, rfl⟩)) (endR _) c52 s52)
  by_cases hdone : (G.plK ind p j).1 < G.vs ind (G.sy p 0) ∧ sub (G.ouV ind p 0 (G.plK ind p j).1) (G.plK ind p j).2.1 = true
  · refine brF ?_ (leave T (fun T2 => _) rfl rc rs (.inl hdone) (fun T2 hT2 => hT2))
    rintro (hh | hh)
    · have := (I_le (by omega) (by omega)).1 hh; omega
    · rw [if_pos (by have := hdone.2; unfold sub at this; exact of_decide_eq_true this)] at hh; exact absurd hh (by decide)
  refine brT ?_ ?_
  · by_cases e : G.vs ind (G.sy p 0) ≤ (G.plK ind p j).1
    · exact .inl ((I_le (by omega) (by omega)).2 e)
    · right
      rw [if_neg (fun hh => hdone ⟨by omega, by unfold sub; exact decide_eq_true hh⟩)]
  refine px_goesOn (h := T.srm 0 0) W D hp X S0 V0 F R hPI hll ?_ ?_ ?_
  · intro h1 h2
    refine pu ?_
    refine brT rfl ⟨nn_of rfl R.k, ?_⟩
    rw [rv]
    exact leave T (fun T2 => _) rfl rc rs (.inr ⟨h1, h2⟩) (fun T2 hT2 => hT2)
  · intro h' r hr F' R' _ _
    rintro _ rfl
    refine brF (by decide) (fin _ _ ?_ F' R' rc rs)
    unfold Gv.plS
    rw [if_neg (by rw [hr]; rintro (hh | hh); exact hdone hh; exact absurd hh.1 (by simp)), hr]
  · intro h' c hr hc F' R' _ _
    rintro _ rfl
    refine brF (by decide) (fin _ _ ?_ F' R' rc rs)
    unfold Gv.plS
    rw [if_neg (by rw [hc]; rintro (hh | hh); exact hdone hh; exact absurd hh.2 (by simp)), hr, hc]
end
