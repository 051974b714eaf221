set_option maxRecDepth 100000
set_option maxHeartbeats 4000000
theorem hi_of {j N : Nat} (h1 : j + 6 ≤ N) (h2 : N ≤ 384) : ∀ c : Int32, c = 1 ∨ c = 2 ∨ c = 3 ∨ c = 4 ∨ c = 5 → ¬ (I j + c < 0 ∨ N ≤ (I j + c).toNatClampNeg) := by
  have key : ∀ k : Nat, k < 6 → ¬ (I j + I k < 0 ∨ N ≤ (I j + I k).toNatClampNeg) := by
    intro k hk h
    rw [I_add] at h
    rcases h with h | h
    · have h3 : I (j + k) < I 0 := h
      rw [I_lt (by omega) (by omega)] at h3
      omega
    · have h3 : ni (I (j + k)) = j + k := I_ni (by omega)
      have h4 : N ≤ ni (I (j + k)) := h
      omega
  intro c hc
  rcases hc with e | e | e | e | e
  · rw [e]; exact key 1 (by omega)
  · rw [e]; exact key 2 (by omega)
  · rw [e]; exact key 3 (by omega)
  · rw [e]; exact key 4 (by omega)
  · rw [e]; exact key 5 (by omega)
theorem i0_of {j N : Nat} (h1 : j + 6 ≤ N) (h2 : N ≤ 384) : ¬ (I j < 0 ∨ N ≤ (I j).toNatClampNeg) := by
  intro h
  rcases h with h | h
  · have h3 : I j < I 0 := h
    rw [I_lt (by omega) (by omega)] at h3
    omega
  · have h3 : ni (I j) = j := I_ni (by omega)
    have h4 : N ≤ ni (I j) := h
    omega
theorem ex_of {j N : Nat} (hj : j ≤ 1000) (hN : N ≤ 384) : (nI N - 6 < I j) ↔ N < j + 6 := by
  by_cases h : 6 ≤ N
  · have e : nI N - 6 = I (N - 6) := I_sub (a := N) (b := 6) h
    rw [e, I_lt (by omega) (by omega)]
    omega
  · refine ⟨fun _ => by omega, fun _ => ?_⟩
    have h6 : ∀ n : Fin 6, ∀ k : Fin 1001, nI n.val - 6 < I k.val := by
      intro n k
      have e1 : nI n.val - 6 < I 0 := by revert n; decide +kernel
      have e2 : I 0 ≤ I k.val := (I_le (by omega) (by have := k.isLt; omega)).mpr (Nat.zero_le _)
      exact Int32.lt_of_lt_of_le e1 e2
    exact h6 ⟨N, by omega⟩ ⟨j, by omega⟩
theorem tab_out {w : Int32} (h : ¬ (w = 0 ∨ w = 1 ∨ w = 2 ∨ w = 3 ∨ w = 4 ∨ w = 5 ∨ w = 6 ∨ w = 7 ∨ w = 8 ∨ w = 9 ∨ w = 10 ∨ w = 11 ∨ w = 12 ∨ w = 13 ∨ w = 14 ∨ w = 15 ∨ w = 16 ∨ w = 17 ∨ w = 18 ∨ w = 19 ∨ w = 20 ∨ w = 21 ∨ w = 22 ∨ w = 23 ∨ w = 24 ∨ w = 25 ∨ w = 26)) : w.toInt < 0 ∨ 26 < w.toInt := by
  by_cases h1 : w.toInt < 0
  · exact .inl h1
  · by_cases h2 : 26 < w.toInt
    · exact .inr h2
    · refine absurd ?_ h
      have h3 : w = Int32.ofInt w.toInt := (Int32.ofInt_toInt w).symm
      have h4 : ∀ n : Fin 27, (Int32.ofInt ((n.val : Nat) : Int) = 0 ∨ Int32.ofInt ((n.val : Nat) : Int) = 1 ∨ Int32.ofInt ((n.val : Nat) : Int) = 2 ∨ Int32.ofInt ((n.val : Nat) : Int) = 3 ∨ Int32.ofInt ((n.val : Nat) : Int) = 4 ∨ Int32.ofInt ((n.val : Nat) : Int) = 5 ∨ Int32.ofInt ((n.val : Nat) : Int) = 6 ∨ Int32.ofInt ((n.val : Nat) : Int) = 7 ∨ Int32.ofInt ((n.val : Nat) : Int) = 8 ∨ Int32.ofInt ((n.val : Nat) : Int) = 9 ∨ Int32.ofInt ((n.val : Nat) : Int) = 10 ∨ Int32.ofInt ((n.val : Nat) : Int) = 11 ∨ Int32.ofInt ((n.val : Nat) : Int) = 12 ∨ Int32.ofInt ((n.val : Nat) : Int) = 13 ∨ Int32.ofInt ((n.val : Nat) : Int) = 14 ∨ Int32.ofInt ((n.val : Nat) : Int) = 15 ∨ Int32.ofInt ((n.val : Nat) : Int) = 16 ∨ Int32.ofInt ((n.val : Nat) : Int) = 17 ∨ Int32.ofInt ((n.val : Nat) : Int) = 18 ∨ Int32.ofInt ((n.val : Nat) : Int) = 19 ∨ Int32.ofInt ((n.val : Nat) : Int) = 20 ∨ Int32.ofInt ((n.val : Nat) : Int) = 21 ∨ Int32.ofInt ((n.val : Nat) : Int) = 22 ∨ Int32.ofInt ((n.val : Nat) : Int) = 23 ∨ Int32.ofInt ((n.val : Nat) : Int) = 24 ∨ Int32.ofInt ((n.val : Nat) : Int) = 25 ∨ Int32.ofInt ((n.val : Nat) : Int) = 26) := by decide +kernel
      obtain ⟨n, hn⟩ : ∃ n : Nat, w.toInt = (n : Int) := ⟨w.toInt.toNat, (Int.toNat_of_nonneg (by omega)).symm⟩
      have h5 := h4 ⟨n, by omega⟩
      have h6 : w = Int32.ofInt (n : Int) := by rw [← hn]; exact h3
      rw [h6]
      exact h5
/-- room for the calls that are left -/
def Bud (N j : Nat) (X : AX) (g : AH) : Prop := 9000 * ((N - j) / 6) + 194 * X.m ≤ g.rc ∧ 113000 * ((N - j) / 6) + 5146 * X.m ≤ g.rs
theorem Bud.step {N j mcG msG : Nat} {X X2 : AX} {g g2 : AH} (B : Bud N j X g) (h6 : j + 6 ≤ N) (c1 : mcG + 194 * X2.m ≤ 9000 + 194 * X.m) (c2 : msG + 5146 * X2.m ≤ 113000 + 5146 * X.m) (e1 : g2.rc = g.rc - mcG) (e2 : g2.rs = g.rs - msG) : Bud N (j + 6) X2 g2 := by
  obtain ⟨b1, b2⟩ := B
  have e : (N - j) / 6 = (N - (j + 6)) / 6 + 1 := by omega
  unfold Bud
  rw [e] at b1 b2
  generalize (N - (j + 6)) / 6 = q at b1 b2 ⊢
  rw [e1, e2]
  constructor <;> omega
theorem Bud.can {N j mcG msG : Nat} {X : AX} {g : AH} (B : Bud N j X g) (h6 : j + 6 ≤ N) (c1 : mcG ≤ 9000 + 194 * X.m) (c2 : msG ≤ 113000 + 5146 * X.m) : mcG ≤ g.rc ∧ msG ≤ g.rs := by
  obtain ⟨b1, b2⟩ := B
  have e : (N - j) / 6 = (N - (j + 6)) / 6 + 1 := by omega
  rw [e] at b1 b2
  generalize (N - (j + 6)) / 6 = q at b1 b2 ⊢
  constructor <;> omega
section LAWL
variable {l : Launch} {D : va_G} {s0 : S0} {mn : String} {mc0 ms0 : Nat} {K : KT} {b N m o jn tpa : Nat} {xs : Nat → Int32}
theorem lw_loop (C : Cx l D s0 cL_law "RuleShuttleLaw" mn 4 2048 88096 mc0 ms0 (some .boolean) LQ K) (hG : G0 D s0) (E : LE s0 b N m xs) (hN : N ≤ 384) : ∀ (n j : Nat) (T : TS) (g : AH) (X : AX), N ≤ j + n → j ≤ N + 6 → LI s0 m o jn tpa T g X → Bud N j X g → K 18 [(0, vA (some b)), (1, vA (some o)), (2, vA (some m)), (3, vI (I j))] [] (mix s0 m T g) := by
  intro n
  induction n using Nat.strongRecOn with
  | ind n ih =>
  intro j T g X hn hj I0 B0
  refine x_b C (pc' := 20) (L' := [(0, vA (some b)), (1, vA (some o)), (2, vA (some m)), (3, vI (I j))]) (st' := [vA (some b), vI (I j)]) [(.iload_n 3, 1), (.aload_n 0, 1)] ⟨dL_law_18, dL_law_19, rfl⟩ rfl ?_
  refine px_slen C 21 dL_law_20 rfl E.X ?_
  refine x_b C (pc' := 24) (L' := [(0, vA (some b)), (1, vA (some o)), (2, vA (some m)), (3, vI (I j))]) (st' := [vI (nI N - 6), vI (I j)]) [(.bipush 6, 2), (.isub, 1)] ⟨dL_law_21, dL_law_23, rfl⟩ rfl ?_
  refine x_icmp_gt C 973 27 dL_law_24 rfl rfl (fun hx => ?_) (fun hx => ?_)
  · refine x_b C (pc' := 974) (L' := [(0, vA (some b)), (1, vA (some o)), (2, vA (some m)), (3, vI (I j))]) (st' := [vI 1]) [(.iconst 1, 1)] ⟨dL_law_973, rfl⟩ rfl ?_
    exact x_zret C dL_law_974 rfl rfl
  rw [ex_of (by omega) hN] at hx
  have h6 : j + 6 ≤ N := by omega
  have hi := hi_of h6 hN
  have nx : ∀ (T2 : TS) (g2 : AH) (X2 : AX) (mcG msG : Nat), LI s0 m o jn tpa T2 g2 X2 → mcG + 194 * X2.m ≤ 9000 + 194 * X.m → msG + 5146 * X2.m ≤ 113000 + 5146 * X.m → g2.rc = g.rc - mcG → g2.rs = g.rs - msG → K 967 [(0, vA (some b)), (1, vA (some o)), (2, vA (some m)), (3, vI (I j))] [] (mix s0 m T2 g2) := by
    intro T2 g2 X2 mcG msG I2 c1 c2 e1 e2
    refine x_b C (pc' := 970) (L' := [(3, vI (I j + 6)), (0, vA (some b)), (1, vA (some o)), (2, vA (some m))]) (st' := []) [(.iinc 3 6, 3)] ⟨dL_law_967, rfl⟩ rfl ?_
    refine x_goto C 18 dL_law_970 rfl ?_
    refine x_sub C (L' := [(0, vA (some b)), (1, vA (some o)), (2, vA (some m)), (3, vI (I j + 6))]) [1, 2, 3, 0] rfl ?_
    have e : I j + 6 = I (j + 6) := I_add j 6
    rw [e]
    exact ih (N - (j + 6)) (by omega) (j + 6) T2 g2 X2 (by omega) (by omega) I2 (B0.step h6 c1 c2 e1 e2)
  refine x_b C (pc' := 29) (L' := [(0, vA (some b)), (1, vA (some o)), (2, vA (some m)), (3, vI (I j))]) (st' := [vI (I j), vA (some b)]) [(.aload_n 0, 1), (.iload_n 3, 1)] ⟨dL_law_27, dL_law_28, rfl⟩ rfl ?_
  refine px_sald C 30 dL_law_29 rfl E.X (i0_of h6 hN) ?_
  refine x_b C (pc' := 33) (L' := [(0, vA (some b)), (1, vA (some o)), (2, vA (some m)), (3, vI (I j))]) (st' := [vI (xs (ni (I j)) &&& 31)]) [(.bipush 31, 2), (.iand, 1)] ⟨dL_law_30, dL_law_32, rfl⟩ rfl ?_
  generalize xs (ni (I j)) &&& 31 = w
  by_cases hw : (w = 0 ∨ w = 1 ∨ w = 2 ∨ w = 3 ∨ w = 4 ∨ w = 5 ∨ w = 6 ∨ w = 7 ∨ w = 8 ∨ w = 9 ∨ w = 10 ∨ w = 11 ∨ w = 12 ∨ w = 13 ∨ w = 14 ∨ w = 15 ∨ w = 16 ∨ w = 17 ∨ w = 18 ∨ w = 19 ∨ w = 20 ∨ w = 21 ∨ w = 22 ∨ w = 23 ∨ w = 24 ∨ w = 25 ∨ w = 26)
  rotate_left
  · exact x_tabOut C 967 dL_law_33 (tab_out hw) rfl (nx T g X 0 0 I0 (by omega) (by omega) (Nat.sub_zero _).symm (Nat.sub_zero _).symm)
  rcases hw with hw | hw | hw | hw | hw | hw | hw | hw | hw | hw | hw | hw | hw | hw | hw | hw | hw | hw | hw | hw | hw | hw | hw | hw | hw | hw | hw
  · refine x_tabIn C (v := 0) 156 dL_law_33 hw rfl rfl rfl rfl ?_
    obtain ⟨hc, hs⟩ := B0.can h6 (mcG := 40) (msG := 5000) (by omega) (by omega)
    have hm : X.m = X.m := rfl
    exact lc_status C hG E I0 hi hc hs (fun T2 g2 I2 e1 e2 => nx T2 g2 _ _ _ I2 (by omega) (by omega) e1 e2)
  · refine x_tabIn C (v := 1) 169 dL_law_33 hw rfl rfl rfl rfl ?_
    obtain ⟨hc, hs⟩ := B0.can h6 (mcG := 40) (msG := 5000) (by omega) (by omega)
    have hm := xFeed_m X (xs (ni (I j + 1))) (xs (ni (I j + 2))) (xs (ni (I j + 3))) (xs (ni (I j + 4))) (xs (ni (I j + 5)))
    exact lc_feed C hG E I0 hi hc hs (fun T2 g2 I2 e1 e2 => nx T2 g2 _ _ _ I2 (by omega) (by omega) e1 e2)
  · refine x_tabIn C (v := 2) 232 dL_law_33 hw rfl rfl rfl rfl ?_
    by_cases hr : inR (xs (ni (I j + 1))) (X.m + 1)
    · obtain ⟨hc, hs⟩ := B0.can h6 (mcG := 1000 + 194 * X.m) (msG := 5000 + 5146 * X.m) (by omega) (by omega)
      exact lc_grammar C hG E I0 hi (fun _ => Nat.le_refl _) (fun _ => Nat.le_refl _) hc hs (fun T2 g2 I2 e1 e2 => nx T2 g2 _ _ _ I2 (by rw [xGrammar_in hr]; omega) (by rw [xGrammar_in hr]; omega) e1 e2)
    · exact lc_grammar C hG E I0 hi (mcG := 0) (msG := 0) (fun q => absurd q hr) (fun q => absurd q hr) (Nat.zero_le _) (Nat.zero_le _) (fun T2 g2 I2 e1 e2 => nx T2 g2 _ _ _ I2 (by rw [xGrammar_out hr]; omega) (by rw [xGrammar_out hr]; omega) e1 e2)
  · refine x_tabIn C (v := 3) 255 dL_law_33 hw rfl rfl rfl rfl ?_
    obtain ⟨hc, hs⟩ := B0.can h6 (mcG := 40) (msG := 5000) (by omega) (by omega)
    have hm : X.m = X.m := rfl
    exact lc_fault C hG E I0 hi hc hs (fun T2 g2 I2 e1 e2 => nx T2 g2 _ _ _ I2 (by omega) (by omega) e1 e2)
  · refine x_tabIn C (v := 4) 278 dL_law_33 hw rfl rfl rfl rfl ?_
    obtain ⟨hc, hs⟩ := B0.can h6 (mcG := 40) (msG := 5000) (by omega) (by omega)
    have hm : (X.ws (qMany X (xs (ni (I j + 1)))).2).m = X.m := rfl
    exact lc_many C hG E I0 hi (by omega) (by omega) hc hs (fun T2 g2 I2 e1 e2 => nx T2 g2 _ _ _ I2 (by omega) (by omega) e1 e2)
  · refine x_tabIn C (v := 5) 301 dL_law_33 hw rfl rfl rfl rfl ?_
    obtain ⟨hc, hs⟩ := B0.can h6 (mcG := 40) (msG := 5000) (by omega) (by omega)
    have hm : (X.ws (qSymbol X (xs (ni (I j + 1))) (xs (ni (I j + 2)))).2).m = X.m := rfl
    exact lc_symbol C hG E I0 hi (by omega) (by omega) hc hs (fun T2 g2 I2 e1 e2 => nx T2 g2 _ _ _ I2 (by omega) (by omega) e1 e2)
  · refine x_tabIn C (v := 6) 334 dL_law_33 hw rfl rfl rfl rfl ?_
    obtain ⟨hc, hs⟩ := B0.can h6 (mcG := 40) (msG := 5000) (by omega) (by omega)
    have hm : (X.ws (qProduction X (xs (ni (I j + 1))) (xs (ni (I j + 2)))).2).m = X.m := rfl
    exact lc_production C hG E I0 hi hc hs (fun T2 g2 I2 e1 e2 => nx T2 g2 _ _ _ I2 (by omega) (by omega) e1 e2)
  · refine x_tabIn C (v := 7) 367 dL_law_33 hw rfl rfl rfl rfl ?_
    obtain ⟨hc, hs⟩ := B0.can h6 (mcG := 40) (msG := 5000) (by omega) (by omega)
    have hm : (X.ws (qHangs X (xs (ni (I j + 1))) (xs (ni (I j + 2))) (xs (ni (I j + 3))) (xs (ni (I j + 4)))).2).m = X.m := rfl
    exact lc_hangs C hG E I0 hi (by omega) (by omega) hc hs (fun T2 g2 I2 e1 e2 => nx T2 g2 _ _ _ I2 (by omega) (by omega) e1 e2)
  · refine x_tabIn C (v := 8) 420 dL_law_33 hw rfl rfl rfl rfl ?_
    obtain ⟨hc, hs⟩ := B0.can h6 (mcG := 40) (msG := 5000) (by omega) (by omega)
    have hm : (X.ws (qInduced X (xs (ni (I j + 1))) (xs (ni (I j + 2))) (xs (ni (I j + 3)))).2).m = X.m := rfl
    exact lc_induced C hG E I0 hi hc hs (fun T2 g2 I2 e1 e2 => nx T2 g2 _ _ _ I2 (by omega) (by omega) e1 e2)
  · refine x_tabIn C (v := 9) 463 dL_law_33 hw rfl rfl rfl rfl ?_
    obtain ⟨hc, hs⟩ := B0.can h6 (mcG := 40) (msG := 5000) (by omega) (by omega)
    have hm : (X.ws (qCircle X (xs (ni (I j + 1)))).2).m = X.m := rfl
    exact lc_circle C hG E I0 hi (by omega) (by omega) hc hs (fun T2 g2 I2 e1 e2 => nx T2 g2 _ _ _ I2 (by omega) (by omega) e1 e2)
  · refine x_tabIn C (v := 10) 486 dL_law_33 hw rfl rfl rfl rfl ?_
    obtain ⟨hc, hs⟩ := B0.can h6 (mcG := 40) (msG := 5000) (by omega) (by omega)
    have hm : (X.ws (qVisit X (xs (ni (I j + 1))) (xs (ni (I j + 2)))).2).m = X.m := rfl
    exact lc_visit C hG E I0 hi hc hs (fun T2 g2 I2 e1 e2 => nx T2 g2 _ _ _ I2 (by omega) (by omega) e1 e2)
  · refine x_tabIn C (v := 11) 519 dL_law_33 hw rfl rfl rfl rfl ?_
    obtain ⟨hc, hs⟩ := B0.can h6 (mcG := 40) (msG := 5000) (by omega) (by omega)
    have hm : (X.ws (qOrdered X (xs (ni (I j + 1)))).2).m = X.m := rfl
    exact lc_ordered C hG E I0 hi hc hs (fun T2 g2 I2 e1 e2 => nx T2 g2 _ _ _ I2 (by omega) (by omega) e1 e2)
  · refine x_tabIn C (v := 12) 542 dL_law_33 hw rfl rfl rfl rfl ?_
    obtain ⟨hc, hs⟩ := B0.can h6 (mcG := 40) (msG := 5000) (by omega) (by omega)
    have hm : (X.ws (qPlan X (xs (ni (I j + 1))) (xs (ni (I j + 2)))).2).m = X.m := rfl
    exact lc_plan C hG E I0 hi hc hs (fun T2 g2 I2 e1 e2 => nx T2 g2 _ _ _ I2 (by omega) (by omega) e1 e2)
  · refine x_tabIn C (v := 13) 575 dL_law_33 hw rfl rfl rfl rfl ?_
    obtain ⟨hc, hs⟩ := B0.can h6 (mcG := 1300) (msG := 40000) (by omega) (by omega)
    have hm : (X.ws (qReal X (xs (ni (I j + 1)))).2).m = X.m := rfl
    exact lc_real C hG E I0 hi (by omega) (by omega) hc hs (fun T2 g2 I2 e1 e2 => nx T2 g2 _ _ _ I2 (by omega) (by omega) e1 e2)
  · refine x_tabIn C (v := 14) 598 dL_law_33 hw rfl rfl rfl rfl ?_
    obtain ⟨hc, hs⟩ := B0.can h6 (mcG := 1300) (msG := 40000) (by omega) (by omega)
    have hm : (X.ws (qShades X (xs (ni (I j + 1)))).2).m = X.m := rfl
    exact lc_shades C hG E I0 hi (by omega) (by omega) hc hs (fun T2 g2 I2 e1 e2 => nx T2 g2 _ _ _ I2 (by omega) (by omega) e1 e2)
  · refine x_tabIn C (v := 15) 621 dL_law_33 hw rfl rfl rfl rfl ?_
    by_cases hr : inR (xs (ni (I j + 1))) (X.m + 1) ∧ X.gr ≠ none
    · obtain ⟨hc, hs⟩ := B0.can h6 (mcG := 1000 + 64 * X.m) (msG := 9000 + 1024 * X.m) (by omega) (by omega)
      exact lc_tree C hG E I0 hi (fun _ _ => Nat.le_refl _) (fun _ _ => Nat.le_refl _) hc hs (fun T2 g2 I2 e1 e2 => nx T2 g2 _ _ _ I2 (by rw [xTree_in hr.1 hr.2]; omega) (by rw [xTree_in hr.1 hr.2]; omega) e1 e2)
    · exact lc_tree C hG E I0 hi (mcG := 0) (msG := 0) (fun q q2 => absurd ⟨q, q2⟩ hr) (fun q q2 => absurd ⟨q, q2⟩ hr) (Nat.zero_le _) (Nat.zero_le _) (fun T2 g2 I2 e1 e2 => nx T2 g2 _ _ _ I2 (by rw [xTree_out hr]; omega) (by rw [xTree_out hr]; omega) e1 e2)
  · refine x_tabIn C (v := 16) 644 dL_law_33 hw rfl rfl rfl rfl ?_
    obtain ⟨hc, hs⟩ := B0.can h6 (mcG := 40) (msG := 5000) (by omega) (by omega)
    have hm : (X.ws (qNode X (xs (ni (I j + 1))) (xs (ni (I j + 2)))).2).m = X.m := rfl
    exact lc_node C hG E I0 hi (by omega) (by omega) hc hs (fun T2 g2 I2 e1 e2 => nx T2 g2 _ _ _ I2 (by omega) (by omega) e1 e2)
  · refine x_tabIn C (v := 17) 677 dL_law_33 hw rfl rfl rfl rfl ?_
    obtain ⟨hc, hs⟩ := B0.can h6 (mcG := 40) (msG := 5000) (by omega) (by omega)
    have hm : (X.ws (qValue X (xs (ni (I j + 1))) (xs (ni (I j + 2)))).2).m = X.m := rfl
    exact lc_value C hG E I0 hi hc hs (fun T2 g2 I2 e1 e2 => nx T2 g2 _ _ _ I2 (by omega) (by omega) e1 e2)
  · refine x_tabIn C (v := 18) 710 dL_law_33 hw rfl rfl rfl rfl ?_
    obtain ⟨hc, hs⟩ := B0.can h6 (mcG := 40) (msG := 5000) (by omega) (by omega)
    have hm : (X.ws (qKnot X (xs (ni (I j + 1))) (xs (ni (I j + 2))) (xs (ni (I j + 3)))).2).m = X.m := rfl
    exact lc_knot C hG E I0 hi hc hs (fun T2 g2 I2 e1 e2 => nx T2 g2 _ _ _ I2 (by omega) (by omega) e1 e2)
  · refine x_tabIn C (v := 19) 753 dL_law_33 hw rfl rfl rfl rfl ?_
    obtain ⟨hc, hs⟩ := B0.can h6 (mcG := 40) (msG := 5000) (by omega) (by omega)
    have hm : (X.ws (qSpan X (xs (ni (I j + 1))) (xs (ni (I j + 2))) (xs (ni (I j + 3)))).2).m = X.m := rfl
    exact lc_span C hG E I0 hi (by omega) (by omega) hc hs (fun T2 g2 I2 e1 e2 => nx T2 g2 _ _ _ I2 (by omega) (by omega) e1 e2)
  · refine x_tabIn C (v := 20) 796 dL_law_33 hw rfl rfl rfl rfl ?_
    obtain ⟨hc, hs⟩ := B0.can h6 (mcG := 40) (msG := 5000) (by omega) (by omega)
    have hm : (X.ws (qRun X (xs (ni (I j + 1)))).2).m = X.m := rfl
    exact lc_run C hG E I0 hi (by omega) (by omega) hc hs (fun T2 g2 I2 e1 e2 => nx T2 g2 _ _ _ I2 (by omega) (by omega) e1 e2)
  · refine x_tabIn C (v := 21) 819 dL_law_33 hw rfl rfl rfl rfl ?_
    obtain ⟨hc, hs⟩ := B0.can h6 (mcG := 40) (msG := 5000) (by omega) (by omega)
    have hm : (X.ws (qLongest X).2).m = X.m := rfl
    exact lc_longest C hG E I0 hi (by omega) (by omega) hc hs (fun T2 g2 I2 e1 e2 => nx T2 g2 _ _ _ I2 (by omega) (by omega) e1 e2)
  · refine x_tabIn C (v := 22) 832 dL_law_33 hw rfl rfl rfl rfl ?_
    obtain ⟨hc, hs⟩ := B0.can h6 (mcG := 40) (msG := 5000) (by omega) (by omega)
    have hm := xPut_m X (xs (ni (I j + 1))) (xs (ni (I j + 2)))
    exact lc_put C hG E I0 hi (by omega) (by omega) hc hs (fun T2 g2 I2 e1 e2 => nx T2 g2 _ _ _ I2 (by omega) (by omega) e1 e2)
  · refine x_tabIn C (v := 23) 865 dL_law_33 hw rfl rfl rfl rfl ?_
    obtain ⟨hc, hs⟩ := B0.can h6 (mcG := 40) (msG := 5000) (by omega) (by omega)
    have hm := xGive_m X (xs (ni (I j + 1))) (xs (ni (I j + 2)))
    exact lc_give C hG E I0 hi (by omega) (by omega) hc hs (fun T2 g2 I2 e1 e2 => nx T2 g2 _ _ _ I2 (by omega) (by omega) e1 e2)
  · refine x_tabIn C (v := 24) 898 dL_law_33 hw rfl rfl rfl rfl ?_
    by_cases hr : grR X (xs (ni (I j + 1))) (xs (ni (I j + 2)))
    · obtain ⟨hc, hs⟩ := B0.can h6 (mcG := 1000 + 64 * X.m) (msG := 14000 + 1024 * X.m) (by omega) (by omega)
      have hm := xGraft_in I0.R.ok hr
      exact lc_graft C hG E I0 hi (fun _ _ _ => Nat.le_refl _) (fun _ _ _ => Nat.le_refl _) hc hs (fun T2 g2 I2 e1 e2 => nx T2 g2 _ _ _ I2 (by rw [hm]; omega) (by rw [hm]; omega) e1 e2)
    · have hm := xGraft_out hr
      exact lc_graft C hG E I0 hi (mcG := 0) (msG := 0) (fun q q2 q3 => absurd ⟨q, q2, q3⟩ hr) (fun q q2 q3 => absurd ⟨q, q2, q3⟩ hr) (Nat.zero_le _) (Nat.zero_le _) (fun T2 g2 I2 e1 e2 => nx T2 g2 _ _ _ I2 (by rw [hm]; omega) (by rw [hm]; omega) e1 e2)
  · refine x_tabIn C (v := 25) 931 dL_law_33 hw rfl rfl rfl rfl ?_
    obtain ⟨hc, hs⟩ := B0.can h6 (mcG := 40) (msG := 5000) (by omega) (by omega)
    have hm : (X.ws (qAnew X (xs (ni (I j + 1)))).2).m = X.m := rfl
    exact lc_anew C hG E I0 hi hc hs (fun T2 g2 I2 e1 e2 => nx T2 g2 _ _ _ I2 (by omega) (by omega) e1 e2)
  · refine x_tabIn C (v := 26) 954 dL_law_33 hw rfl rfl rfl rfl ?_
    obtain ⟨hc, hs⟩ := B0.can h6 (mcG := 40) (msG := 5000) (by omega) (by omega)
    have hm : (X.ws (qDigest X).2).m = X.m := rfl
    exact lc_digest C hG E I0 hi (by omega) (by omega) hc hs (fun T2 g2 I2 e1 e2 => nx T2 g2 _ _ _ I2 (by omega) (by omega) e1 e2)
end LAWL
