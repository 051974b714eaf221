/-! plain: cng -/
set_option maxRecDepth 100000
section
variable {G : Gv} {T : Tv} {L : GA} {A : TA} {x o : Nat} {B : IA} {tu un ga : Nat} {s : TjS} {gv : Nat → Int32} {S : Ist}

noncomputable def pk (P : Prop) (n : Nat) : Nat := @ite _ P (Classical.propDecidable _) n 0
theorem pk_pos {P : Prop} (h : P) (n : Nat) : pk P n = n := if_pos h
theorem pk_neg {P : Prop} (h : ¬ P) (n : Nat) : pk P n = 0 := if_neg h
theorem pk_congr {P Q : Prop} (h : P ↔ Q) (n : Nat) : pk P n = pk Q n := by rw [propext h]

/-- of knots below k those alone. -/
def pB (s : TjS) (k i : Nat) : Prop := ∃ j, s.kn i = some j ∧ j < k ∧ s.kt j = false

def noW : Nat → Nat → Prop := fun _ _ => False

theorem px_longestRow {h : AH} (W : G.WF) (X : T.WF G) (IS : IsI S G T gv) (K0 : RkB h.c L A G T x o B tu un s ga gv) (hc : 1 ≤ h.rc) (hs : 320 ≤ h.rs) {Q : Int32 → AH → Prop}
    (hQ : ∀ h', Fr noW h.c h'.c → h'.rc = h.rc - 1 → h'.rs = h.rs - 320 → Q (I S.lng) h') : wp_X17_longestRow o h Q := by
  have h40 := X.n40
  have h320 := K0.I.F.n
  have hMM := IS.mm
  have F0 := K0.I.F
  have hkt : ∀ i k, s.kn i = some k → (s.kt k = false ↔ ¬ Trc S.E i i) := fun i k e => by
    have := F0.f i k e
    rw [IS.ee]
    show _ ↔ ¬ (∃ w, T.ed G i w ∧ Rch (T.ed G) w i)
    rw [← this]
    cases s.kt k <;> simp
  refine ⟨nl320 hc hs, ?_⟩
  intro h1 e1
  have Z0 : Fr noW h.c h1.c ∧ h1.kd h.sz = (40, 320) ∧ h.sz < h1.sz ∧ (∀ i, i < 320 → h1.ai h.sz i = I (pk (pB s 0 i) (S.ch i))) ∧ h1.rc = h.rc - 1 ∧ h1.rs = h.rs - 320 := by
    rw [e1]
    refine ⟨(Fr.refl _).new _ _ _, ?_, ?_, fun i hi => ?_, rfl, rfl⟩
    · rw [new_kd, if_pos rfl]; rfl
    · rw [new_sz]; omega
    · rw [new_ai, if_pos rfl, pk_neg (fun ⟨_, _, hh, _⟩ => absurd hh (Nat.not_lt_zero _))]; rfl
  clear e1
  refine xlp_cnt s.kts (fun k q U => (Fr noW h.c U.c ∧ U.kd h.sz = (40, 320) ∧ h.sz < U.sz ∧ (∀ i, i < 320 → U.ai h.sz i = I (pk (pB s k i) (S.ch i))) ∧ U.rc = h.rc - 1 ∧ U.rs = h.rs - 320) ∧ ∃ mo, q = (I mo, I k) ∧ (∀ i, pB s k i → S.ch i ≤ mo) ∧ (mo = 0 ∨ ∃ i, i < S.M ∧ (S.V i ∧ ¬ Trc S.E i i) ∧ S.ch i = mo)) ⟨Z0, 0, rfl, fun i ⟨_, _, hh, _⟩ => absurd hh (Nat.not_lt_zero _), .inl rfl⟩ ?_
  clear Z0 h1
  intro k q U K hk hh hK
  obtain ⟨⟨FU, kU, lU, aU, cU, sU⟩, mo, hq, hmo, hmo2⟩ := hh
  rw [hq]
  clear hq q
  have KU := K0.keepW FU (fun _ _ hh => hh.elim)
  have n7 : U.fi 1707 o = I s.kts := KU.I.R.n1
  have f6 : U.fr 1706 o = some B.ik := KU.I.K.Y.f6
  have hmol : mo ≤ 321 := by
    rcases hmo2 with e | ⟨i, _, _, e⟩
    · omega
    · have := S.ch_le i; omega
  refine ⟨nn_of rfl KU.I.K.J.k, ?_⟩
  rw [n7]
  by_cases e : k = s.kts
  · refine brT (by (first | omega | ((try simp (disch := omega) only [L_le, le_L, L_lt, lt_L, eq_L, L_eq, I_le, I_lt, I_eq, I_ni, add_L, L_add, I_add, mul_L, L_mul, I_mul, sub_L, L_sub, I_sub, div_L, rem_L]); done) | ((try simp (disch := omega) only [L_le, le_L, L_lt, lt_L, eq_L, L_eq, I_le, I_lt, I_eq, I_ni, add_L, L_add, I_add, mul_L, L_mul, I_mul, sub_L, L_sub, I_sub, div_L, rem_L]); omega))) ?_
    have : S.lng = mo := mxP_eq (fun i hi => by
      obtain ⟨j, hj, ej⟩ := F0.a i ((IS.vv i).1 hi.1)
      exact hmo i ⟨j, ej, by omega, (hkt i j ej).2 hi.2⟩) hmo2
    have := hQ U FU cU sU
    rw [show S.lng = mo from ‹S.lng = mo›] at this
    exact this
  have hk' : k < s.kts := by omega
  refine brF (by (first | omega | ((try simp (disch := omega) only [L_le, le_L, L_lt, lt_L, eq_L, L_eq, I_le, I_lt, I_eq, I_ni, add_L, L_add, I_add, mul_L, L_mul, I_mul, sub_L, L_sub, I_sub, div_L, rem_L]); done) | ((try simp (disch := omega) only [L_le, le_L, L_lt, lt_L, eq_L, L_eq, I_le, I_lt, I_eq, I_ni, add_L, L_add, I_add, mul_L, L_mul, I_mul, sub_L, L_sub, I_sub, div_L, rem_L]); omega))) ?_
  rw [f6, adr_some]
  refine ⟨ix_of rfl KU.I.K.Y.k6 (by omega) (by decide), ?_⟩
  rw [I_ni (by omega), show U.ai B.ik k = (if s.kt k then 1 else 0) from KU.I.R.ik k hk']
  cases hkk : s.kt k with
  | true =>
    refine brF (fun hh => absurd (show (1 : Int32) = 0 from hh) (by decide)) ?_
    (try simp (disch := omega) only [L_le, le_L, L_lt, lt_L, eq_L, L_eq, I_le, I_lt, I_eq, I_ni, add_L, L_add, I_add, mul_L, L_mul, I_mul, sub_L, L_sub, I_sub, div_L, rem_L])
    have hpp : ∀ i, pB s (k + 1) i ↔ pB s k i := fun i => by
      constructor
      · rintro ⟨j, g1, g2, g3⟩
        have : j ≠ k := fun ej => by rw [ej, hkk] at g3; exact absurd g3 (by decide)
        exact ⟨j, g1, by omega, g3⟩
      · rintro ⟨j, g1, g2, g3⟩
        exact ⟨j, g1, by omega, g3⟩
    refine hK _ _ hk' ⟨⟨FU, kU, lU, fun i hi => ?_, cU, sU⟩, mo, rfl, fun i hi => hmo i ((hpp i).1 hi), hmo2⟩
    rw [aU i hi, pk_congr (hpp i)]
  | false =>
    refine brT rfl ?_
    refine px_firstOf (h := U.srm 0 0) KU.I X hk' ?_
    intro i0 hi0 hk0 _
    have hlt0 := X.isLt hi0
    have hn0 : ¬ Trc S.E i0 i0 := (hkt i0 k hk0).1 hkk
    have V0 : S.V i0 := (IS.vv i0).2 hi0
    have hone : ∀ i, s.kn i = some k ↔ i = i0 := fun i => by
      rw [← F0.clS W X IS hi0 hk0 i]
      exact ⟨fun hh => S.alone hn0 hh, fun hh => by rw [hh]; exact S.cls_self V0⟩
    refine pu ⟨nn_of rfl KU.I.K.J.k, ?_⟩
    refine px_askedI (h := U.srm 0 0) W X KU.I.K.S KU.I.K.R KU.I.K.J hi0 (pu ?_)
    refine xlp_cnt 32 (fun u q U2 => q = I u ∧ (Fr noW h.c U2.c ∧ U2.kd h.sz = (40, 320) ∧ h.sz < U2.sz ∧ U2.rc = h.rc - 1 ∧ U2.rs = h.rs - 320) ∧ ∃ y, (∀ i, i < 320 → U2.ai h.sz i = I (if i = i0 then y else pk (pB s k i) (S.ch i))) ∧ (∀ u', u' < u → bt (T.ask G i0) u' = true → ¬ Trc S.E (T.oth G i0 u') (T.oth G i0 u') → S.ch (T.oth G i0 u') ≤ y) ∧ (y = 0 ∨ ∃ j, j < S.M ∧ (S.E i0 j ∧ ¬ Trc S.E j j) ∧ S.ch j = y)) ⟨rfl, ⟨FU, kU, lU, cU, sU⟩, 0, fun i hi => ?_, fun u' hu => absurd hu (Nat.not_lt_zero _), .inl rfl⟩ ?_
    · by_cases ei : i = i0
      · subst ei
        rw [if_pos rfl, aU i hi, pk_neg (fun ⟨j, h1, h2, _⟩ => by rw [hk0] at h1; have := Option.some.inj h1; omega)]
      · rw [if_neg ei, aU i hi]
    intro u q U2 K2 hu hh hK2
    obtain ⟨hq, ⟨F2, k2, l2, c2, s2⟩, y, a2, y1, y2⟩ := hh
    rw [hq]
    clear hq q
    have K2' := K0.keepW F2 (fun _ _ hh => hh.elim)
    have hyl : y ≤ 321 := by
      rcases y2 with e | ⟨i, _, _, e⟩
      · omega
      · have := S.ch_le i; omega
    by_cases eu : u = 32
    · refine brT (by (first | omega | ((try simp (disch := omega) only [L_le, le_L, L_lt, lt_L, eq_L, L_eq, I_le, I_lt, I_eq, I_ni, add_L, L_add, I_add, mul_L, L_mul, I_mul, sub_L, L_sub, I_sub, div_L, rem_L]); done) | ((try simp (disch := omega) only [L_le, le_L, L_lt, lt_L, eq_L, L_eq, I_le, I_lt, I_eq, I_ni, add_L, L_add, I_add, mul_L, L_mul, I_mul, sub_L, L_sub, I_sub, div_L, rem_L]); omega))) ?_
      rw [I_ni (by omega), a2 i0 (by omega), if_pos rfl]
      (try simp (disch := omega) only [L_le, le_L, L_lt, lt_L, eq_L, L_eq, I_le, I_lt, I_eq, I_ni, add_L, L_add, I_add, mul_L, L_mul, I_mul, sub_L, L_sub, I_sub, div_L, rem_L])
      refine ⟨ix_of rfl k2 (by omega) (by decide), ix_of rfl k2 (by omega) (by decide), ?_⟩
      intro h3 e3
      have hch : S.ch i0 = y + 1 := by
        rw [S.ch_eq hn0, mxP_eq (x := y) (fun j hj => ?_) y2, Nat.add_comm]
        have := hj.1
        rw [IS.ee] at this
        obtain ⟨_, u', hu', hb', rfl⟩ := this
        exact y1 u' (by omega) hb' hj.2
      have k3 : h3.kd h.sz = (40, 320) := by rw [e3]; exact k2
      have a3 : h3.ai h.sz = updN (U2.ai h.sz) i0 (I (y + 1)) := by rw [e3, sai_ai, if_pos rfl]
      refine ⟨ix_of rfl k3 (by omega) (by decide), ?_⟩
      rw [a3, updN_same]
      intro m hm
      have F3 : Fr noW h.c h3.c := by rw [e3]; exact F2.sai _ _ (fun hh => absurd hh (Nat.lt_irrefl _))
      have hm' : m = I (max mo (y + 1)) := by
        rw [hm]
        by_cases hl : mo ≤ y + 1
        · rw [if_pos ((I_le (by omega) (by omega)).2 hl), Nat.max_eq_right hl]
        · rw [if_neg (fun hh => hl ((I_le (by omega) (by omega)).1 hh)), Nat.max_eq_left (by omega)]
      rw [hm']
      have hpp : ∀ i, pB s (k + 1) i ↔ pB s k i ∨ i = i0 := fun i => by
        constructor
        · rintro ⟨j, g1, g2, g3⟩
          by_cases ej : j = k
          · rw [ej] at g1; exact .inr ((hone i).1 g1)
          · exact .inl ⟨j, g1, by omega, g3⟩
        · rintro (⟨j, g1, g2, g3⟩ | ei)
          · exact ⟨j, g1, by omega, g3⟩
          · exact ⟨k, (hone i).2 ei, by omega, hkk⟩
      have cc : h3.rc = h.rc - 1 := by rw [e3]; exact c2
      have ss : h3.rs = h.rs - 320 := by rw [e3]; exact s2
      have ll : h.sz < h3.sz := by rw [e3]; exact l2
      refine pu (h := h3) ?_
      refine hK _ _ hk' ⟨⟨F3, k3, ll, fun i hi => ?_, cc, ss⟩, max mo (y + 1), rfl, fun i hi => ?_, ?_⟩
      · rw [a3, pk_congr (hpp i)]
        by_cases ei : i = i0
        · rw [ei, updN_same, pk_pos (.inr rfl), hch]
        · rw [updN_ne _ _ ei, a2 i hi, if_neg ei, pk_congr (show pB s k i ↔ pB s k i ∨ i = i0 from ⟨.inl, fun hh => hh.elim id (fun hh => absurd hh ei)⟩)]
      · rcases (hpp i).1 hi with hi | ei
        · exact Nat.le_trans (hmo i hi) (Nat.le_max_left _ _)
        · rw [ei, hch]; exact Nat.le_max_right _ _
      · by_cases hl : mo ≤ y + 1
        · rw [Nat.max_eq_right hl]
          exact .inr ⟨i0, by omega, ⟨V0, hn0⟩, hch⟩
        · rw [Nat.max_eq_left (by omega)]
          exact hmo2
    have hu' : u < 32 := by omega
    refine brF (by (first | omega | ((try simp (disch := omega) only [L_le, le_L, L_lt, lt_L, eq_L, L_eq, I_le, I_lt, I_eq, I_ni, add_L, L_add, I_add, mul_L, L_mul, I_mul, sub_L, L_sub, I_sub, div_L, rem_L]); done) | ((try simp (disch := omega) only [L_le, le_L, L_lt, lt_L, eq_L, L_eq, I_le, I_lt, I_eq, I_ni, add_L, L_add, I_add, mul_L, L_mul, I_mul, sub_L, L_sub, I_sub, div_L, rem_L]); omega))) ?_
    refine px_has (h := U2.srm 0 0) hu' (pu ?_)
    (try simp (disch := omega) only [L_le, le_L, L_lt, lt_L, eq_L, L_eq, I_le, I_lt, I_eq, I_ni, add_L, L_add, I_add, mul_L, L_mul, I_mul, sub_L, L_sub, I_sub, div_L, rem_L])
    by_cases hb : bt (T.ask G i0) u = true
    rotate_left
    · rw [if_neg hb]
      refine brT rfl (hK2 _ _ hu' ⟨rfl, ⟨F2, k2, l2, c2, s2⟩, y, a2, fun u' hl hb' => y1 u' (by have : u' ≠ u := fun e9 => hb (e9 ▸ hb'); omega) hb', y2⟩)
    rw [if_pos hb]
    obtain ⟨_, _, _, _, _, _, hoi⟩ := X.oth_is W hi0 hb
    have hlto := X.isLt hoi
    have hE : S.E i0 (T.oth G i0 u) := by rw [IS.ee]; exact ⟨hi0, u, hu', hb, rfl⟩
    have hne : T.oth G i0 u ≠ i0 := fun e9 => hn0 ⟨i0, by rw [e9] at hE; exact hE, Rch.refl _⟩
    refine brF (by decide) ⟨ix_of rfl k2 (by omega) (by decide), nn_of rfl K2'.I.K.J.k, ?_⟩
    refine px_other (h := U2.srm 0 0) W X K2'.I.K.S K2'.I.K.R K2'.I.K.J hi0 hb (pu ?_)
    refine ⟨ix_of rfl k2 (by omega) (by decide), ?_⟩
    rw [I_ni (by omega), a2 i0 (by omega), if_pos rfl, a2 _ (show T.oth G i0 u < 320 by omega), if_neg hne]
    obtain ⟨f9, hf9⟩ : ∃ f9, pk (pB s k (T.oth G i0 u)) (S.ch (T.oth G i0 u)) = f9 := ⟨_, rfl⟩
    have hf1 : ¬ Trc S.E (T.oth G i0 u) (T.oth G i0 u) → f9 = S.ch (T.oth G i0 u) := fun hn => by
      rw [← hf9]
      refine pk_pos ?_ _
      rw [IS.ee] at hE
      obtain ⟨k9, hk9, e9⟩ := F0.t i0 _ k hk0 hE
      refine ⟨k9, e9, ?_, (hkt _ _ e9).2 hn⟩
      have : k9 ≠ k := fun ek => hne ((hone _).1 (ek ▸ e9))
      omega
    have hf2 : Trc S.E (T.oth G i0 u) (T.oth G i0 u) → f9 = 0 := fun ht => by
      rw [← hf9]
      exact pk_neg (fun ⟨j, g1, _, g3⟩ => (hkt _ _ g1).1 g3 ht) _
    have hfl : f9 ≤ 321 := by
      by_cases ht : Trc S.E (T.oth G i0 u) (T.oth G i0 u)
      · rw [hf2 ht]; omega
      · rw [hf1 ht]; have := S.ch_le (T.oth G i0 u); omega
    rw [hf9]
    intro m hm
    have hm' : m = I (max y f9) := by
      rw [hm]
      by_cases hl : y ≤ f9
      · rw [if_pos ((I_le (by omega) (by omega)).2 hl), Nat.max_eq_right hl]
      · rw [if_neg (fun hh => hl ((I_le (by omega) (by omega)).1 hh)), Nat.max_eq_left (by omega)]
    rw [hm']
    refine pu (h := U2) ⟨ix_of rfl k2 (by omega) (by decide), ?_⟩
    intro h3 e3
    have k3 : h3.kd h.sz = (40, 320) := by rw [e3]; exact k2
    have a3 : h3.ai h.sz = updN (U2.ai h.sz) i0 (I (max y f9)) := by rw [e3, sai_ai, if_pos rfl]
    have F3 : Fr noW h.c h3.c := by rw [e3]; exact F2.sai _ _ (fun hh => absurd hh (Nat.lt_irrefl _))
    refine hK2 _ _ hu' ⟨rfl, ⟨F3, k3, by rw [e3]; exact l2, by rw [e3]; exact c2, by rw [e3]; exact s2⟩, max y f9, fun i hi => ?_, fun u' hl hb' hn' => ?_, ?_⟩
    · rw [a3]
      by_cases ei : i = i0
      · rw [ei, updN_same, if_pos rfl]
      · rw [updN_ne _ _ ei, if_neg ei, a2 i hi, if_neg ei]
    · by_cases eu' : u' = u
      · subst eu'
        rw [← hf1 hn']
        exact Nat.le_max_right _ _
      · exact Nat.le_trans (y1 u' (by omega) hb' hn') (Nat.le_max_left _ _)
    · by_cases hl : y ≤ f9
      · rw [Nat.max_eq_right hl]
        by_cases ht : Trc S.E (T.oth G i0 u) (T.oth G i0 u)
        · exact .inl (hf2 ht)
        · exact .inr ⟨_, by omega, ⟨hE, ht⟩, (hf1 ht).symm⟩
      · rw [Nat.max_eq_left (by omega)]
        exact y2
end
