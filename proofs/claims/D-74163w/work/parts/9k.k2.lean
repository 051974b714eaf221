/-! plain: k2 -/
set_option maxRecDepth 100000
section
variable {h : AH}

/-- the hash of a row of bytes. -/
def hN (w : List Nat) : Int32 := w.foldl (fun x b => 31 * x + I b) 0
/-- a string of small bytes. -/
def StR (c : HC) (a v : Nat) (w : List Nat) : Prop :=
  ((c.kd a).1 = 22) ∧
  (a < c.sz) ∧
  (c.fr 2200 a = some v) ∧
  (c.kd v = (41, w.length)) ∧
  (v < c.sz) ∧
  (∀ i, i < w.length → c.ai v i = I (w.getD i 0)) ∧
  (c.fi 2201 a = 0) ∧
  (w.length ≤ 1000) ∧
  (∀ x, x ∈ w → x < 128)
theorem StR.k {c : HC} {a v : Nat} {w : List Nat} (h9 : StR c a v w) : (c.kd a).1 = 22 := h9.1
theorem StR.l {c : HC} {a v : Nat} {w : List Nat} (h9 : StR c a v w) : a < c.sz := h9.2.1
theorem StR.vr {c : HC} {a v : Nat} {w : List Nat} (h9 : StR c a v w) : c.fr 2200 a = some v := h9.2.2.1
theorem StR.vk {c : HC} {a v : Nat} {w : List Nat} (h9 : StR c a v w) : c.kd v = (41, w.length) := h9.2.2.2.1
theorem StR.vl {c : HC} {a v : Nat} {w : List Nat} (h9 : StR c a v w) : v < c.sz := h9.2.2.2.2.1
theorem StR.vv {c : HC} {a v : Nat} {w : List Nat} (h9 : StR c a v w) : ∀ i, i < w.length → c.ai v i = I (w.getD i 0) := h9.2.2.2.2.2.1
theorem StR.co {c : HC} {a v : Nat} {w : List Nat} (h9 : StR c a v w) : c.fi 2201 a = 0 := h9.2.2.2.2.2.2.1
theorem StR.b {c : HC} {a v : Nat} {w : List Nat} (h9 : StR c a v w) : w.length ≤ 1000 := h9.2.2.2.2.2.2.2.1
theorem StR.b8 {c : HC} {a v : Nat} {w : List Nat} (h9 : StR c a v w) : ∀ x, x ∈ w → x < 128 := h9.2.2.2.2.2.2.2.2
theorem StR.keep {W : Nat → Nat → Prop} {c c' : HC} {a v : Nat} {w : List Nat} (S : StR c a v w) (F : Fr W c c') (h1 : ¬ W 2200 a) (h2 : ¬ W 2201 a) (h3 : ¬ W 0 v) : StR c' a v w :=
  ⟨by rw [F.kd a S.l]; exact S.k, Nat.lt_of_lt_of_le S.l F.sz, by rw [F.fr 2200 a S.l h1]; exact S.vr, by rw [F.kd v S.vl]; exact S.vk, Nat.lt_of_lt_of_le S.vl F.sz, by rw [F.ai v S.vl h3]; exact S.vv, by rw [F.fi 2201 a S.l h2]; exact S.co, S.b, S.b8⟩
theorem getD_lt {w : List Nat} (hb : ∀ x, x ∈ w → x < 128) (i : Nat) : w.getD i 0 < 128 := by
  by_cases hi : i < w.length
  · rw [List.getD_eq_getElem?_getD, List.getElem?_eq_getElem hi]
    exact hb _ (List.getElem_mem hi)
  · rw [List.getD_eq_getElem?_getD, List.getElem?_eq_none (by omega)]
    show 0 < 128
    omega
theorem list_getD {v w : List Nat} (hl : v.length = w.length) (h : ∀ i, i < v.length → v.getD i 0 = w.getD i 0) : v = w := by
  apply List.ext_getElem hl
  intro i h1 h2
  have := h i h1
  rw [List.getD_eq_getElem?_getD, List.getD_eq_getElem?_getD, List.getElem?_eq_getElem h1, List.getElem?_eq_getElem h2] at this
  exact this

theorem pc_equals {a v b u : Nat} {w x : List Nat} (S : StR h.c a v w) (Z : StR h.c b u x) {Q : Int32 → AH → Prop} (hQ : Q (if w = x then 1 else 0) h) : wp_J2_equals a (some b) h Q := by
  have k1 : h.kd v = (41, w.length) := S.vk
  have k2 : h.kd u = (41, x.length) := Z.vk
  have l1 := S.b
  have l2 := Z.b
  unfold wp_J2_equals
  by_cases hab : some a = some b
  · have e := Option.some.inj hab
    subst e
    have e2 : v = u := Option.some.inj (S.vr.symm.trans Z.vr)
    subst e2
    have e3 : w = x := by
      have e4 : w.length = x.length := (Prod.mk.inj (S.vk.symm.trans Z.vk)).2
      refine list_getD e4 (fun i hi => ?_)
      have := (S.vv i hi).symm.trans (Z.vv i (by omega))
      have g1 := getD_lt S.b8 i
      have g2 := getD_lt Z.b8 i
      exact (I_eq (by omega) (by omega)).1 this
    rw [if_pos e3] at hQ
    exact brT hab hQ
  refine brF hab ⟨nn_of rfl Z.k, .inr (nn_of rfl Z.k), nn_of rfl S.k, ?_⟩
  rw [adr_some, show h.fi 2201 a = 0 from S.co, show h.fi 2201 b = 0 from Z.co, show h.fr 2200 a = some v from S.vr, show h.fr 2200 b = some u from Z.vr]
  refine brT rfl ?_
  -- the rest, whatever comes out
  have fin : ∀ (r : Int32) (U : AH), U = h.srm 0 0 → (r = if w = x then 1 else 0) → ∀ h7, h7 = U.srm h.rc h.rs → ∀ m8 : Int32, m8 = (if r = 0 then 0 else 1) → bz m8 ∧ Q m8 h7 := by
    intro r U hU hr h7 e7 m8 e8
    have e9 : h7 = h := by rw [e7, hU]; rfl
    rw [e9]
    by_cases hw : w = x
    · rw [if_pos hw] at hQ hr
      rw [hr, if_neg (by decide)] at e8
      rw [e8]; exact ⟨.inr rfl, hQ⟩
    · rw [if_neg hw] at hQ hr
      rw [hr, if_pos rfl] at e8
      rw [e8]; exact ⟨.inl rfl, hQ⟩
  unfold wp_J7_equals
  refine ⟨nn_of rfl (by show (h.kd v).1 = 41; rw [k1]), nn_of rfl (by show (h.kd u).1 = 41; rw [k2]), ?_⟩
  have kd1 : (h.srm 0 0).kd v = (41, w.length) := k1
  have kd2 : (h.srm 0 0).kd u = (41, x.length) := k2
  rw [adr_some, adr_some, kd1, kd2]
  by_cases hl : w.length = x.length
  rotate_left
  · refine brF (fun hh => hl ((I_eq (by omega) (by omega)).1 hh)) (fin 0 _ rfl ?_)
    rw [if_neg (fun e => hl (by rw [e]))]
  refine brT (by rw [hl]) ?_
  refine xlp_cnt w.length (fun k q U => q = I k ∧ U = h.srm 0 0 ∧ ∀ i, i < k → w.getD i 0 = x.getD i 0) ⟨rfl, rfl, fun i hi => absurd hi (by omega)⟩ ?_
  intro k q U K hk hh hK
  obtain ⟨hq, hU, heq⟩ := hh
  rw [hq, hU]
  refine ⟨nn_of rfl (by rw [kd1]), ?_⟩
  rw [kd1]
  by_cases ek : k = w.length
  · subst ek
    refine brT ((I_le (by omega) (by omega)).2 (Nat.le_refl _)) (fin 1 _ rfl ?_)
    rw [if_pos (list_getD hl heq)]
  refine brF (fun hh => by have := (I_le (by omega) (by omega)).1 hh; omega) ⟨ix_of rfl kd1 (by omega) (by omega), ix_of rfl kd2 (by omega) (by omega), ?_⟩
  rw [I_ni (by omega)]
  rw [show (h.srm 0 0).ai v k = I (w.getD k 0) from S.vv k (by omega), show (h.srm 0 0).ai u k = I (x.getD k 0) from Z.vv k (by omega)]
  have g1 := getD_lt S.b8 k
  have g2 := getD_lt Z.b8 k
  by_cases he : w.getD k 0 = x.getD k 0
  · refine brT (by rw [he]) ?_
    rw [show I k + 1 = I (k + 1) from I_add _ 1]
    refine hK _ _ (by omega) ⟨rfl, rfl, fun i hi => ?_⟩
    by_cases ei : i = k
    · rw [ei]; exact he
    · exact heq i (by omega)
  · refine brF (fun hh => he ((I_eq (by omega) (by omega)).1 hh)) (fin 0 _ rfl ?_)
    rw [if_neg (fun e => he (by rw [e]))]

/-- a string's hash as it is kept. -/
def HsR (c : HC) (a : Nat) (w : List Nat) : Prop :=
  (c.lo ≤ a) ∧
  ((c.fi 2202 a = 0 ∧ c.fi 2203 a = 0) ∨ (c.fi 2202 a = hN w ∧ (hN w = 0 → c.fi 2203 a ≠ 0)))
theorem HsR.b {c : HC} {a : Nat} {w : List Nat} (h9 : HsR c a w) : c.lo ≤ a := h9.1
theorem HsR.hs {c : HC} {a : Nat} {w : List Nat} (h9 : HsR c a w) : (c.fi 2202 a = 0 ∧ c.fi 2203 a = 0) ∨ (c.fi 2202 a = hN w ∧ (hN w = 0 → c.fi 2203 a ≠ 0)) := h9.2
theorem HsR.keep {W : Nat → Nat → Prop} {c c' : HC} {a : Nat} {w : List Nat} (S : HsR c a w) (F : Fr W c c') (hl : a < c.sz) (h1 : ¬ W 2202 a) (h2 : ¬ W 2203 a) : HsR c' a w :=
  ⟨by have := S.b; unfold HC.lo at *; rw [F.bs]; exact this, by rw [F.fi 2202 a hl h1, F.fi 2203 a hl h2]; exact S.hs⟩
def WH (a : Nat) : Nat → Nat → Prop := fun f b => (f = 2202 ∨ f = 2203) ∧ b = a
theorem and255 {b : Nat} (hb : b < 128) : (I b &&& 255) = I b := by
  refine bt_ext (fun k hk => ?_)
  rw [bt_and, bt_255, bt_nat _ _ (by omega)]
  by_cases h8 : k < 8
  · rw [decide_eq_true h8, Bool.and_true]
  · rw [decide_eq_false h8, Bool.and_false]
    exact (Nat.testBit_lt_two_pow (Nat.lt_of_lt_of_le (show b < 2 ^ 8 by omega) (Nat.pow_le_pow_right (by decide) (by omega)))).symm
theorem hN_take {w : List Nat} {k : Nat} (hk : k < w.length) : hN (w.take (k + 1)) = 31 * hN (w.take k) + I (w.getD k 0) := by
  unfold hN
  rw [List.take_succ, List.foldl_append, List.getElem?_eq_getElem hk, List.getD_eq_getElem?_getD, List.getElem?_eq_getElem hk]
  rfl
theorem pc_hashCode {a v : Nat} {w : List Nat} (S : StR h.c a v w) (H : HsR h.c a w) {Q : Int32 → AH → Prop} (hQ : ∀ h', Fr (WH a) h.c h'.c → StR h'.c a v w → HsR h'.c a w → h'.rc = h.rc → h'.rs = h.rs → Q (hN w) h') : wp_J2_hashCode a h Q := by
  have k1 : h.kd v = (41, w.length) := S.vk
  have l1 := S.b
  unfold wp_J2_hashCode
  refine ⟨nn_of rfl S.k, ?_⟩
  by_cases h0 : h.fi 2202 a = 0
  rotate_left
  · refine brF h0 ?_
    rcases H.hs with hh | hh
    · exact absurd hh.1 h0
    · rw [show h.fi 2202 a = hN w from hh.1]
      exact hQ h (Fr.refl _) S H rfl rfl
  refine brT h0 ?_
  by_cases h3 : h.fi 2203 a = 0
  rotate_left
  · refine brF h3 ?_
    rcases H.hs with hh | hh
    · exact absurd hh.2 h3
    · rw [show h.fi 2202 a = hN w from hh.1]
      exact hQ h (Fr.refl _) S H rfl rfl
  refine brT h3 ⟨nn_of rfl S.k, ?_⟩
  intro m2 e2
  rw [show (h.srm 0 0).fi 2201 a = 0 from S.co, if_pos rfl] at e2
  rw [e2]
  refine ⟨.inr rfl, ?_⟩
  intro h6 e6
  have e6' : h6 = h := by rw [e6]; rfl
  rw [e6']
  refine ⟨fun r U => r = hN w ∧ U = h, brF (by decide) ⟨nn_of rfl S.k, 0, 0, ⟨Nat.zero_le _, Nat.zero_le _⟩, ?_⟩, ?_⟩
  · rw [show h.fr 2200 a = some v from S.vr]
    have fin : ∀ (r : Int32) (U : AH), U = h.srm 0 0 → r = hN w → ∀ h20, h20 = U.srm (h.rc - 0) (h.rs - 0) → r = hN w ∧ h20 = h := by
      intro r U hU hr h20 e20
      refine ⟨hr, ?_⟩
      rw [e20, hU]; rfl
    unfold wp_J7_hashCode
    have kd1 : (h.srm 0 0).kd v = (41, w.length) := k1
    refine ⟨nn_of rfl (by rw [kd1]), ?_⟩
    rw [adr_some, kd1]
    by_cases l0 : w.length = 0
    · refine brT (by rw [l0]; rfl) (fin 0 _ rfl ?_)
      rw [List.eq_nil_of_length_eq_zero l0]; rfl
    refine brF (fun hh => l0 ((I_eq (b := 0) (by omega) (by omega)).1 hh)) ?_
    by_cases l11 : w.length = 1
    · refine brT (by rw [l11]; rfl) ⟨ix_of (k := 0) rfl kd1 (by omega) (by omega), fin _ _ rfl ?_⟩
      have e0 : (h.srm 0 0).ai v (ni 0) = I (w.getD 0 0) := S.vv 0 (by omega)
      rw [e0, and255 (getD_lt S.b8 0)]
      match w, l11 with
      | [b], _ =>
        show I b = 31 * 0 + I b
        rw [show (31 : Int32) * 0 = 0 by decide, Int32.zero_add]
    refine brF (fun hh => l11 ((I_eq (b := 1) (by omega) (by omega)).1 hh)) ⟨0, 0, ⟨Nat.zero_le _, Nat.zero_le _⟩, ?_⟩
    unfold wp_J4_vectorizedHashCode
    refine brT rfl ⟨nn_of rfl (by show ((h.srm 0 0).kd v).1 = 41; rw [kd1]), ?_⟩
    unfold wp_J4_signedHashCode
    refine xlp_cnt w.length (fun k q U => q = (hN (w.take k), I k) ∧ U = ((h.srm 0 0).srm 0 0).srm 0 0) ⟨rfl, rfl⟩ ?_
    intro k q U K hk hh hK
    obtain ⟨hq, hU⟩ := hh
    rw [hq, hU]
    have ez : (0 : Int32) + nI w.length = I w.length := Int32.zero_add _
    rw [ez]
    by_cases ek : k = w.length
    · subst ek
      refine brT ((I_le (by omega) (by omega)).2 (Nat.le_refl _)) ?_
      rw [List.take_length]
      intro h5 e5 h8 e8
      refine fin _ h8 ?_ rfl
      rw [e8, e5]; rfl
    refine brF (fun hh => by have := (I_le (by omega) (by omega)).1 hh; omega) ⟨ix_of rfl (show ((((h.srm 0 0).srm 0 0).srm 0 0).kd v) = (41, w.length) from k1) (by omega) (by omega), ?_⟩
    have e0 : (((h.srm 0 0).srm 0 0).srm 0 0).ai v (ni (I k)) = I (w.getD k 0) := by rw [I_ni (by omega)]; exact S.vv k (by omega)
    rw [adr_some]
    show K ((31 * hN (w.take k)) + ((((h.srm 0 0).srm 0 0).srm 0 0).ai v (ni (I k)) &&& 255), I k + 1) _
    rw [e0, and255 (getD_lt S.b8 k), ← hN_take (by omega), show I k + 1 = I (k + 1) from I_add _ 1]
    exact hK _ _ (by omega) ⟨rfl, rfl⟩
  · intro r U hh
    obtain ⟨er, eU⟩ := hh
    rw [er, eU]
    have bb := H.b
    by_cases hz : hN w = 0
    · refine brT hz ⟨nn_of rfl S.k, bb, ?_⟩
      intro h30 e30
      have F : Fr (WH a) h.c h30.c := by rw [e30]; exact (Fr.refl _).sfi _ (fun _ => ⟨.inr rfl, rfl⟩)
      refine hQ h30 F (S.keep F (by unfold WH; omega) (by unfold WH; omega) (by unfold WH; omega)) ⟨by have := H.b; unfold HC.lo at *; rw [F.bs]; exact this, .inr ⟨?_, fun _ => ?_⟩⟩ (by rw [e30]; rfl) (by rw [e30]; rfl)
      · rw [e30, hz]; show (h.sfi 2203 a 1).fi 2202 a = 0; rw [sfi_ne h (F := 2203) a 1 a (by decide)]; exact h0
      · rw [e30]; show (h.sfi 2203 a 1).fi 2203 a ≠ 0; rw [sfi_same]; decide
    · refine brF hz ⟨nn_of rfl S.k, bb, ?_⟩
      intro h28 e28
      have F : Fr (WH a) h.c h28.c := by rw [e28]; exact (Fr.refl _).sfi _ (fun _ => ⟨.inl rfl, rfl⟩)
      refine hQ h28 F (S.keep F (by unfold WH; omega) (by unfold WH; omega) (by unfold WH; omega)) ⟨by have := H.b; unfold HC.lo at *; rw [F.bs]; exact this, .inr ⟨?_, fun hh => absurd hh hz⟩⟩ (by rw [e28]; rfl) (by rw [e28]; rfl)
      rw [e28]; exact sfi_same h 2202 a _
end
