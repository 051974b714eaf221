/-! plain: k7 -/
set_option maxRecDepth 100000
section
variable {h : AH} {a v : Nat} {w : List Nat}
theorem neg1_lt0 : ¬ (0 : Int32) ≤ -1 := by decide
theorem mem_getD {w : List Nat} {b : Nat} : b ∈ w ↔ ∃ i, i < w.length ∧ w.getD i 0 = b := by
  constructor
  · intro hb
    obtain ⟨i, hi, e⟩ := List.getElem_of_mem hb
    exact ⟨i, hi, by rw [List.getD_eq_getElem?_getD, List.getElem?_eq_getElem hi]; exact e⟩
  · rintro ⟨i, hi, e⟩
    rw [List.getD_eq_getElem?_getD, List.getElem?_eq_getElem hi] at e
    rw [← e]; exact List.getElem_mem hi
theorem pc_indexOf (S : StR h.c a v w) (hw : 1 ≤ w.length) {b : Nat} (hb : b < 256) {Q : Int32 → AH → Prop} (hQ : ∀ r, (0 ≤ r ↔ b ∈ w) → Q r h) : wp_J2_indexOf a (sB b) h Q := by
  have k1 : h.kd v = (41, w.length) := S.vk
  have l1 := S.b
  unfold wp_J2_indexOf
  refine ⟨nn_of rfl S.k, 0, 0, ⟨Nat.zero_le _, Nat.zero_le _⟩, ?_⟩
  dsimp only
  unfold wp_J2_indexOf_2
  refine ⟨nn_of rfl S.k, nn_of rfl S.k, ?_⟩
  intro m2 e2
  rw [show ((h.srm 0 0).srm 0 0).fi 2201 a = 0 from S.co, if_pos rfl] at e2
  rw [e2]
  refine ⟨.inr rfl, ?_⟩
  intro h4 e4
  have e4' : h4 = h.srm 0 0 := by rw [e4]; rfl
  rw [e4']
  have vr : (h.srm 0 0).fr 2200 a = some v := S.vr
  refine brF (by decide) ⟨nn_of rfl S.k, nn_of rfl S.k, ?_⟩
  rw [show ((h.srm 0 0).srm 0 0).fr 2200 a = some v from S.vr]
  refine ⟨nn_of rfl (by show (h.kd v).1 = 41; rw [k1]), nn_of rfl S.k, ?_⟩
  rw [show (((h.srm 0 0).srm 0 0).srm 0 0).fi 2201 a = 0 from S.co]
  refine ⟨rfl, ?_⟩
  rw [adr_some, vr]
  intro h5 e5
  have e5' : h5 = (h.srm 0 0).srm 0 0 := by rw [e5]; rfl
  rw [e5']
  intro h9 e9
  have e9' : h9 = h.srm 0 0 := by rw [e9]; rfl
  rw [e9']
  have ej : jshr (nI (((h.srm 0 0).srm 0 0).kd v).2) 0 = I w.length := by
    rw [show ((h.srm 0 0).srm 0 0).kd v = (41, w.length) from k1]
    apply bt_ext
    intro k hk
    rw [show (0 : Int32) = I 0 from rfl, bt_shr _ (by omega) (by omega), Nat.zero_add]
    rfl
  rw [ej]
  have fin : ∀ (r : Int32) (U : AH), U = ((h.srm 0 0).srm 0 0) → (0 ≤ r ↔ b ∈ w) → ∀ h22, h22 = U.srm (h.srm 0 0).rc (h.srm 0 0).rs → ∀ h4, h4 = h22.srm (h.rc - 0) (h.rs - 0) → Q r h4 := by
    intro r U hU hr h22 e22 h4 e4
    have : h4 = h := by rw [e4, e22, hU]; rfl
    rw [this]; exact hQ r hr
  unfold wp_J7_indexOf
  intro m1 e1
  by_cases hb1 : 128 ≤ b
  · rw [if_pos (sB_hi hb1 hb)] at e1
    rw [e1]
    refine ⟨.inl rfl, ?_⟩
    intro h3 e3
    have e3' : h3 = (h.srm 0 0).srm 0 0 := by rw [e3]; rfl
    rw [e3']
    refine brT rfl (fin (-1) _ rfl ⟨fun hh => absurd hh neg1_lt0, fun hh => ?_⟩)
    have := S.b8 b hh
    omega
  have hb2 : b < 128 := by omega
  rw [sB_lo hb2] at e1 ⊢
  rw [if_neg (I_nonneg (by omega)), if_neg (fun hh => by have h9 : 255 < b := (L_lt 255 (by decide) (by omega)).1 hh; omega)] at e1
  rw [e1]
  refine ⟨.inr rfl, ?_⟩
  intro h3 e3
  have e3' : h3 = (h.srm 0 0).srm 0 0 := by rw [e3]; rfl
  rw [e3']
  have kd3 : ((h.srm 0 0).srm 0 0).kd v = (41, w.length) := k1
  refine brF (by decide) ⟨nn_of rfl (by rw [kd3]), ?_⟩
  rw [adr_some, kd3, if_neg (show ¬ (0 : Int32) < 0 by decide), show (if nI w.length < I w.length then nI w.length else I w.length) = I w.length by split <;> rfl]
  refine brT (show (0 : Int32) < I w.length from (L_lt 0 (by decide) (by omega)).2 (by show 0 < w.length; omega)) ?_
  unfold wp_J7_indexOfChar
  refine xlp_cnt w.length (fun k q U => q = I k ∧ U = ((h.srm 0 0).srm 0 0).srm 0 0 ∧ ∀ i, i < k → w.getD i 0 ≠ b) ⟨rfl, rfl, fun i hi => absurd hi (by omega)⟩ ?_
  intro k q U K hk hh hK
  obtain ⟨hq, hU, hno⟩ := hh
  rw [hq, hU]
  by_cases ek : k = w.length
  · subst ek
    refine brT ((I_le (by omega) (by omega)).2 (Nat.le_refl _)) ?_
    intro h10 e10 h12 e12 
    refine fin (-1) h10 (by rw [e10]; rfl) ⟨fun hh => absurd hh neg1_lt0, fun hh => ?_⟩ h12 e12
    obtain ⟨i, hi, e⟩ := mem_getD.1 hh
    exact absurd e (hno i hi)
  refine brF (fun hh => by have := (I_le (by omega) (by omega)).1 hh; omega) ⟨ix_of rfl (show (((h.srm 0 0).srm 0 0).srm 0 0).kd v = (41, w.length) from k1) (by omega) (by omega), ?_⟩
  have eb : Int8.toInt32 (Int32.toInt8 (I b)) = I b := by
    have key : ∀ b : Fin 128, Int8.toInt32 (Int32.toInt8 (I b.1)) = I b.1 := by decide +kernel
    exact key ⟨b, hb2⟩
  rw [adr_some, I_ni (by omega), eb, show (((h.srm 0 0).srm 0 0).srm 0 0).ai v k = I (w.getD k 0) from S.vv k (by omega)]
  have g1 := getD_lt S.b8 k
  by_cases he : w.getD k 0 = b
  · refine brT (by rw [he]) ?_
    intro h10 e10 h12 e12
    exact fin (I k) h10 (by rw [e10]; rfl) ⟨fun _ => mem_getD.2 ⟨k, by omega, he⟩, fun _ => zero_le_I (by omega)⟩ h12 e12
  · refine brF (fun hh => he ((I_eq (by omega) (by omega)).1 hh)) ?_
    rw [show I k + 1 = I (k + 1) from I_add _ 1]
    refine hK _ _ (by omega) ⟨rfl, rfl, fun i hi => ?_⟩
    by_cases ei : i = k
    · rw [ei]; exact he
    · exact hno i (by omega)

/-- texts that the component's code tells. -/
def ksb (k : Nat) : List Nat :=
  match k with
  | 0 => []
  | 1 => [59, 58, 44, 46, 61, 43, 45, 42, 124, 38, 60, 40, 41]
  | 2 => kw 0
  | 3 => kw 1
  | 4 => kw 2
  | 5 => kw 3
  | 6 => kw 4
  | 7 => kw 5
  | 8 => kw 6
  | 9 => kw 7
  | 10 => kw 8
  | 11 => [58]
  | 12 => [46]
  | 13 => [61]
  | 14 => [40]
  | 15 => [41]
  | 16 => [44]
  | 17 => [43]
  | 18 => [45]
  | 19 => [42]
  | 20 => [124]
  | 21 => [38]
  | 22 => [60]
  | _ => [59]
def CoR (c : HC) : Prop := ∀ k, k < 24 → ∃ a v, sref (c.cs k) = some a ∧ StR c a v (ksb k) ∧ a < c.lo ∧ v < c.lo
theorem CoR.keep {W : Nat → Nat → Prop} {c c' : HC} (Z : CoR c) (F : Fr W c c') (hW : ∀ f a, W f a → c.lo ≤ a) : CoR c' := by
  intro k hk
  obtain ⟨a, v, h1, h2, h3, h4⟩ := Z k hk
  have n : ∀ f x, x < c.lo → ¬ W f x := fun f x hx hh => by have := hW f x hh; omega
  refine ⟨a, v, by unfold HC.cs at *; rw [F.bs]; exact h1, h2.keep F (n _ a h3) (n _ a h3) (n _ v h4), by unfold HC.lo at *; rw [F.bs]; exact h3, by unfold HC.lo at *; rw [F.bs]; exact h4⟩
theorem sgn_mem {b : Nat} : sgn b = true ↔ b ∈ ksb 1 := by
  show _ ↔ b ∈ [59, 58, 44, 46, 61, 43, 45, 42, 124, 38, 60, 40, 41]
  unfold sgn
  simp [or_assoc]
end
