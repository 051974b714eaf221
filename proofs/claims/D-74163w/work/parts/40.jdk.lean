set_option maxRecDepth 100000
set_option maxHeartbeats 4000000
def wp_J4_hugeLength (p0 : Int32) (p1 : Int32) (h : AH) (Q : Int32 → AH → Prop) : Prop :=
  ((0 ≤ (p0 + p1) →
  ((2147483639 < (p0 + p1) →
  Q (p0 + p1) h) ∧ (¬ 2147483639 < (p0 + p1) →
  Q 2147483639 h))) ∧ (¬ 0 ≤ (p0 + p1) →
  False))
theorem hd_J4_hugeLength : yJ4_hugeLength.cls ≠ "java/lang/invoke/MethodHandle" ∧ yJ4_hugeLength.cls ≠ "java/lang/invoke/VarHandle" ∧ (parseMethodDescriptor yJ4_hugeLength.desc).map (fun d => d.parameters.length) = some 2 := by decide +kernel
theorem ok_J4_hugeLength {l : Launch} {D : va_G} {s0 : S0} (hG : G0 D s0) {p0 : Int32} {p1 : Int32} {h : AH} {Q : Int32 → AH → Prop} (hw : wp_J4_hugeLength p0 p1 h Q) : OKm l D s0 yJ4_hugeLength cJ4_hugeLength 3 (some .int) 1 60 [vI p0, vI p1] h (QI Q) := by
  refine x_metF hG (by decide +kernel) (own := RJ4) (mn := "hugeLength") rfl rfl (L0 := [(0, vI p0), (1, vI p1)]) rfl rfl ?_
  intro K C
  unfold wp_J4_hugeLength at hw
  refine x_b C (pc' := 5) (L' := [(2, vI (p0 + p1)), (0, vI p0), (1, vI p1)]) (st' := [vI (p0 + p1)]) [(.iload_n 0, 1), (.iload_n 1, 1), (.iadd, 1), (.istore_n 2, 1), (.iload_n 2, 1)] ⟨dJ4_hugeLength_0, dJ4_hugeLength_1, dJ4_hugeLength_2, dJ4_hugeLength_3, dJ4_hugeLength_4, rfl⟩ rfl ?_
  refine x_if_ge C 49 8 dJ4_hugeLength_5 rfl rfl (fun hc1 => ?_) (fun hc1 => ?_)
  · replace hw := hw.1 hc1
    refine x_b C (pc' := 50) (L' := [(2, vI (p0 + p1)), (0, vI p0), (1, vI p1)]) (st' := [vI (p0 + p1)]) [(.iload_n 2, 1)] ⟨dJ4_hugeLength_49, rfl⟩ rfl ?_
    refine x_ldc C (v := 2147483639) 52 dJ4_hugeLength_50 rfl q377 ?_
    refine x_icmp_gt C 58 55 dJ4_hugeLength_52 rfl rfl (fun hc2 => ?_) (fun hc2 => ?_)
    · replace hw := hw.1 hc2
      refine x_b C (pc' := 59) (L' := [(2, vI (p0 + p1)), (0, vI p0), (1, vI p1)]) (st' := [vI (p0 + p1)]) [(.iload_n 2, 1)] ⟨dJ4_hugeLength_58, rfl⟩ rfl ?_
      exact x_iret C dJ4_hugeLength_59 ⟨_, rfl, hw⟩
    · replace hw := hw.2 hc2
      refine x_ldc C (v := 2147483639) 57 dJ4_hugeLength_55 rfl q377 ?_
      exact x_iret C dJ4_hugeLength_57 ⟨_, rfl, hw⟩
  · replace hw := hw.2 hc1
    exact hw.elim
def wp_J4_newLength (p0 : Int32) (p1 : Int32) (p2 : Int32) (h : AH) (Q : Int32 → AH → Prop) : Prop :=
  (((p0 + (if p1 < p2 then p2 else p1)) ≤ (0 : Int32) →
  cl h fun mc5 ms6 => wp_J4_hugeLength p0 p1 (h.srm mc5 ms6) fun r2 h3 => ∀ h4, h4 = h3.srm (h.rc - mc5) (h.rs - ms6) →
  Q r2 h4) ∧ (¬ (p0 + (if p1 < p2 then p2 else p1)) ≤ (0 : Int32) →
  ((2147483639 < (p0 + (if p1 < p2 then p2 else p1)) →
  cl h fun mc12 ms13 => wp_J4_hugeLength p0 p1 (h.srm mc12 ms13) fun r9 h10 => ∀ h11, h11 = h10.srm (h.rc - mc12) (h.rs - ms13) →
  Q r9 h11) ∧ (¬ 2147483639 < (p0 + (if p1 < p2 then p2 else p1)) →
  Q (p0 + (if p1 < p2 then p2 else p1)) h))))
theorem hd_J4_newLength : yJ4_newLength.cls ≠ "java/lang/invoke/MethodHandle" ∧ yJ4_newLength.cls ≠ "java/lang/invoke/VarHandle" ∧ (parseMethodDescriptor yJ4_newLength.desc).map (fun d => d.parameters.length) = some 3 := by decide +kernel
theorem ok_J4_newLength {l : Launch} {D : va_G} {s0 : S0} (hG : G0 D s0) {p0 : Int32} {p1 : Int32} {p2 : Int32} {h : AH} {Q : Int32 → AH → Prop} (hw : wp_J4_newLength p0 p1 p2 h Q) : OKm l D s0 yJ4_newLength cJ4_newLength 4 (some .int) 2 82 [vI p0, vI p1, vI p2] h (QI Q) := by
  refine x_metF hG (by decide +kernel) (own := RJ4) (mn := "newLength") rfl rfl (L0 := [(0, vI p0), (1, vI p1), (2, vI p2)]) rfl rfl ?_
  intro K C
  unfold wp_J4_newLength at hw
  refine x_b C (pc' := 3) (L' := [(0, vI p0), (1, vI p1), (2, vI p2)]) (st' := [vI p2, vI p1, vI p0]) [(.iload_n 0, 1), (.iload_n 1, 1), (.iload_n 2, 1)] ⟨dJ4_newLength_0, dJ4_newLength_1, dJ4_newLength_2, rfl⟩ rfl ?_
  refine x_mmax C 6 [vI p0] dJ4_newLength_3 rfl q374 q375 q166 q376 ⟨rfl, rfl⟩ ?_
  refine x_b C (pc' := 10) (L' := [(3, vI (p0 + (if p1 < p2 then p2 else p1))), (0, vI p0), (1, vI p1), (2, vI p2)]) (st' := [vI (p0 + (if p1 < p2 then p2 else p1)), vI 0]) [(.iadd, 1), (.istore_n 3, 1), (.iconst 0, 1), (.iload_n 3, 1)] ⟨dJ4_newLength_6, dJ4_newLength_7, dJ4_newLength_8, dJ4_newLength_9, rfl⟩ rfl ?_
  refine x_icmp_ge C 21 13 dJ4_newLength_10 rfl rfl (fun hc1 => ?_) (fun hc1 => ?_)
  · replace hw := hw.1 hc1
    refine x_b C (pc' := 23) (L' := [(3, vI (p0 + (if p1 < p2 then p2 else p1))), (0, vI p0), (1, vI p1), (2, vI p2)]) (st' := [vI p1, vI p0]) [(.iload_n 0, 1), (.iload_n 1, 1)] ⟨dJ4_newLength_21, dJ4_newLength_22, rfl⟩ rfl ?_
    obtain ⟨mc5, ms6, hle7, hw⟩ := hw
    refine x_cS C 26 (mc2 := mc5) (ms2 := ms6) [vI p0, vI p1] [] dJ4_newLength_23 rfl (ok_J4_hugeLength hG hw) hle7 q378 q379 q165 q380 hd_J4_hugeLength ⟨rfl, rfl, rfl⟩ (fun v9 h3 h4 hq9 eh4 => ?_)
    obtain ⟨r2, rfl, hw⟩ := hq9
    replace hw := hw h4 eh4
    exact x_iret C dJ4_newLength_26 ⟨_, rfl, hw⟩
  · replace hw := hw.2 hc1
    refine x_b C (pc' := 14) (L' := [(3, vI (p0 + (if p1 < p2 then p2 else p1))), (0, vI p0), (1, vI p1), (2, vI p2)]) (st' := [vI (p0 + (if p1 < p2 then p2 else p1))]) [(.iload_n 3, 1)] ⟨dJ4_newLength_13, rfl⟩ rfl ?_
    refine x_ldc C (v := 2147483639) 16 dJ4_newLength_14 rfl q377 ?_
    refine x_icmp_gt C 21 19 dJ4_newLength_16 rfl rfl (fun hc8 => ?_) (fun hc8 => ?_)
    · replace hw := hw.1 hc8
      refine x_b C (pc' := 23) (L' := [(3, vI (p0 + (if p1 < p2 then p2 else p1))), (0, vI p0), (1, vI p1), (2, vI p2)]) (st' := [vI p1, vI p0]) [(.iload_n 0, 1), (.iload_n 1, 1)] ⟨dJ4_newLength_21, dJ4_newLength_22, rfl⟩ rfl ?_
      obtain ⟨mc12, ms13, hle14, hw⟩ := hw
      refine x_cS C 26 (mc2 := mc12) (ms2 := ms13) [vI p0, vI p1] [] dJ4_newLength_23 rfl (ok_J4_hugeLength hG hw) hle14 q378 q379 q165 q380 hd_J4_hugeLength ⟨rfl, rfl, rfl⟩ (fun v9 h10 h11 hq9 eh11 => ?_)
      obtain ⟨r9, rfl, hw⟩ := hq9
      replace hw := hw h11 eh11
      exact x_iret C dJ4_newLength_26 ⟨_, rfl, hw⟩
    · replace hw := hw.2 hc8
      refine x_b C (pc' := 20) (L' := [(3, vI (p0 + (if p1 < p2 then p2 else p1))), (0, vI p0), (1, vI p1), (2, vI p2)]) (st' := [vI (p0 + (if p1 < p2 then p2 else p1))]) [(.iload_n 3, 1)] ⟨dJ4_newLength_19, rfl⟩ rfl ?_
      exact x_iret C dJ4_newLength_20 ⟨_, rfl, hw⟩
def wp_J0_newCapacity (o : Nat) (p0 : Int32) (h : AH) (Q : Int32 → AH → Prop) : Prop :=
  nn h (some o) 21 ∧
  nn h (h.fr 2100 o) 41 ∧
  cl h fun mc6 ms7 => wp_J4_newLength (nI (h.kd (adr (h.fr 2100 o))).2) ((jshl p0 (h.fi 2101 o)) - (nI (h.kd (adr (h.fr 2100 o))).2)) ((nI (h.kd (adr (h.fr 2100 o))).2) + (jshl 2 (h.fi 2101 o))) (h.srm mc6 ms7) fun r3 h4 => ∀ h5, h5 = h4.srm (h.rc - mc6) (h.rs - ms7) →
  ((r3 = 2147483647 →
  False) ∧ (¬ r3 = 2147483647 →
  nn h5 (some o) 21 ∧
  Q (jshr r3 (h5.fi 2101 o)) h5))
theorem hd_J0_newCapacity : yJ0_newCapacity.cls = RJ0 ∧ yJ0_newCapacity.cls ≠ "java/lang/invoke/MethodHandle" ∧ yJ0_newCapacity.cls ≠ "java/lang/invoke/VarHandle" ∧ (parseMethodDescriptor yJ0_newCapacity.desc).map (fun d => d.parameters.length) = some 1 := by decide +kernel
theorem ok_J0_newCapacity {l : Launch} {D : va_G} {s0 : S0} (hG : G0 D s0) {o : Nat} {p0 : Int32} {h : AH} {Q : Int32 → AH → Prop} (hw : wp_J0_newCapacity o p0 h Q) : OKm l D s0 yJ0_newCapacity cJ0_newCapacity 6 (some .int) 3 105 [vA (some o), vI p0] h (QI Q) := by
  refine x_metF hG (by decide +kernel) (own := RJ0) (mn := "newCapacity") rfl rfl (L0 := [(0, vA (some o)), (1, vI p0)]) rfl rfl ?_
  intro K C
  unfold wp_J0_newCapacity at hw
  refine x_b C (pc' := 1) (L' := [(0, vA (some o)), (1, vI p0)]) (st' := [vA (some o)]) [(.aload_n 0, 1)] ⟨dJ0_newCapacity_0, rfl⟩ rfl ?_
  have hn1 := hw.1
  replace hw := hw.2
  refine x_get C 21 0 (pc' := 4) (v := vA (h.fr 2100 o)) dJ0_newCapacity_1 rfl rfl rfl q343 rfl hn1 ?_
  have hn2 := hw.1
  replace hw := hw.2
  refine x_alen C 41 5 dJ0_newCapacity_4 rfl rfl hn2 ?_
  refine x_b C (pc' := 8) (L' := [(2, vI (nI (h.kd (adr (h.fr 2100 o))).2)), (0, vA (some o)), (1, vI p0)]) (st' := [vA (some o), vI p0]) [(.istore_n 2, 1), (.iload_n 1, 1), (.aload_n 0, 1)] ⟨dJ0_newCapacity_5, dJ0_newCapacity_6, dJ0_newCapacity_7, rfl⟩ rfl ?_
  refine x_get C 21 1 (pc' := 11) (v := vI (h.fi 2101 o)) dJ0_newCapacity_8 rfl rfl rfl q344 rfl hn1 ?_
  refine x_b C (pc' := 24) (L' := [(4, vI ((jshl p0 (h.fi 2101 o)) - (nI (h.kd (adr (h.fr 2100 o))).2))), (3, vI (jshl p0 (h.fi 2101 o))), (2, vI (nI (h.kd (adr (h.fr 2100 o))).2)), (0, vA (some o)), (1, vI p0)]) (st' := [vA (some o), vI 2, vI (nI (h.kd (adr (h.fr 2100 o))).2), vI ((jshl p0 (h.fi 2101 o)) - (nI (h.kd (adr (h.fr 2100 o))).2)), vI (nI (h.kd (adr (h.fr 2100 o))).2)]) [(.ishl, 1), (.istore_n 3, 1), (.iload_n 3, 1), (.iload_n 2, 1), (.isub, 1), (.istore 4, 2), (.iload_n 2, 1), (.iload 4, 2), (.iload_n 2, 1), (.iconst 2, 1), (.aload_n 0, 1)] ⟨dJ0_newCapacity_11, dJ0_newCapacity_12, dJ0_newCapacity_13, dJ0_newCapacity_14, dJ0_newCapacity_15, dJ0_newCapacity_16, dJ0_newCapacity_18, dJ0_newCapacity_19, dJ0_newCapacity_21, dJ0_newCapacity_22, dJ0_newCapacity_23, rfl⟩ rfl ?_
  refine x_get C 21 1 (pc' := 27) (v := vI (h.fi 2101 o)) dJ0_newCapacity_24 rfl rfl rfl q344 rfl hn1 ?_
  refine x_b C (pc' := 29) (L' := [(4, vI ((jshl p0 (h.fi 2101 o)) - (nI (h.kd (adr (h.fr 2100 o))).2))), (3, vI (jshl p0 (h.fi 2101 o))), (2, vI (nI (h.kd (adr (h.fr 2100 o))).2)), (0, vA (some o)), (1, vI p0)]) (st' := [vI ((nI (h.kd (adr (h.fr 2100 o))).2) + (jshl 2 (h.fi 2101 o))), vI ((jshl p0 (h.fi 2101 o)) - (nI (h.kd (adr (h.fr 2100 o))).2)), vI (nI (h.kd (adr (h.fr 2100 o))).2)]) [(.ishl, 1), (.iadd, 1)] ⟨dJ0_newCapacity_27, dJ0_newCapacity_28, rfl⟩ rfl ?_
  obtain ⟨mc6, ms7, hle8, hw⟩ := hw
  refine x_cS C 32 (mc2 := mc6) (ms2 := ms7) [vI (nI (h.kd (adr (h.fr 2100 o))).2), vI ((jshl p0 (h.fi 2101 o)) - (nI (h.kd (adr (h.fr 2100 o))).2)), vI ((nI (h.kd (adr (h.fr 2100 o))).2) + (jshl 2 (h.fi 2101 o)))] [] dJ0_newCapacity_29 rfl (ok_J4_newLength hG hw) hle8 q371 q372 q165 q373 hd_J4_newLength ⟨rfl, rfl, rfl⟩ (fun v9 h4 h5 hq9 eh5 => ?_)
  obtain ⟨r3, rfl, hw⟩ := hq9
  replace hw := hw h5 eh5
  refine x_b C (pc' := 36) (L' := [(5, vI r3), (4, vI ((jshl p0 (h.fi 2101 o)) - (nI (h.kd (adr (h.fr 2100 o))).2))), (3, vI (jshl p0 (h.fi 2101 o))), (2, vI (nI (h.kd (adr (h.fr 2100 o))).2)), (0, vA (some o)), (1, vI p0)]) (st' := [vI r3]) [(.istore 5, 2), (.iload 5, 2)] ⟨dJ0_newCapacity_32, dJ0_newCapacity_34, rfl⟩ rfl ?_
  refine x_ldc C (v := 2147483647) 38 dJ0_newCapacity_36 rfl q381 ?_
  refine x_icmp_ne C 51 41 dJ0_newCapacity_38 rfl rfl (fun hc9 => ?_) (fun hc9 => ?_)
  · replace hw := hw.2 hc9
    refine x_b C (pc' := 54) (L' := [(5, vI r3), (4, vI ((jshl p0 (h.fi 2101 o)) - (nI (h.kd (adr (h.fr 2100 o))).2))), (3, vI (jshl p0 (h.fi 2101 o))), (2, vI (nI (h.kd (adr (h.fr 2100 o))).2)), (0, vA (some o)), (1, vI p0)]) (st' := [vA (some o), vI r3]) [(.iload 5, 2), (.aload_n 0, 1)] ⟨dJ0_newCapacity_51, dJ0_newCapacity_53, rfl⟩ rfl ?_
    have hn10 := hw.1
    replace hw := hw.2
    refine x_get C 21 1 (pc' := 57) (v := vI (h5.fi 2101 o)) dJ0_newCapacity_54 rfl rfl rfl q344 rfl hn10 ?_
    refine x_b C (pc' := 58) (L' := [(5, vI r3), (4, vI ((jshl p0 (h.fi 2101 o)) - (nI (h.kd (adr (h.fr 2100 o))).2))), (3, vI (jshl p0 (h.fi 2101 o))), (2, vI (nI (h.kd (adr (h.fr 2100 o))).2)), (0, vA (some o)), (1, vI p0)]) (st' := [vI (jshr r3 (h5.fi 2101 o))]) [(.ishr, 1)] ⟨dJ0_newCapacity_57, rfl⟩ rfl ?_
    exact x_iret C dJ0_newCapacity_58 ⟨_, rfl, hw⟩
  · replace hw := hw.1 hc9
    exact hw.elim
def wp_J6_copyOf (p0 : Option Nat) (p1 : Int32) (h : AH) (Q : Option Nat → AH → Prop) : Prop :=
  nn h p0 41 ∧
  ((p1 = (nI (h.kd (adr p0)).2) →
  (∀ i, i < (h.kd (adr p0)).2 → fits .byte (.int (h.ai (adr p0) i)) = true) ∧
  nr h (h.kd (adr p0)).2 ∧
  ∀ h6, h6 = (h.new 41 (h.kd (adr p0)).2 (h.kd (adr p0)).2).wai h.sz (h.ai (adr p0)) →
  nn h6 (some h.sz) 41 ∧
  Q (some h.sz) h6) ∧ (¬ p1 = (nI (h.kd (adr p0)).2) →
  nl h p1 ∧
  ∀ h3, h3 = h.new 41 (ni p1) (ni p1) →
  nn h3 p0 41 ∧
  cpk h3 41 p0 0 (some h.sz) 0 (if p1 < (nI (h3.kd (adr p0)).2) then p1 else (nI (h3.kd (adr p0)).2)) ∧
  h3.lo ≤ h.sz ∧
  (∀ i, i < ni (if p1 < (nI (h3.kd (adr p0)).2) then p1 else (nI (h3.kd (adr p0)).2)) → fits .byte (.int (h3.ai (adr p0) (ni 0 + i))) = true) ∧
  ∀ h5, h5 = h3.wai h.sz (va_cpy (h3.ai (adr p0)) (h3.ai h.sz) (ni 0) (ni 0) (ni (if p1 < (nI (h3.kd (adr p0)).2) then p1 else (nI (h3.kd (adr p0)).2)))) →
  Q (some h.sz) h5))
theorem hd_J6_copyOf : yJ6_copyOf.cls ≠ "java/lang/invoke/MethodHandle" ∧ yJ6_copyOf.cls ≠ "java/lang/invoke/VarHandle" ∧ (parseMethodDescriptor yJ6_copyOf.desc).map (fun d => d.parameters.length) = some 2 := by decide +kernel
theorem ok_J6_copyOf {l : Launch} {D : va_G} {s0 : S0} (hG : G0 D s0) {p0 : Option Nat} {p1 : Int32} {h : AH} {Q : Option Nat → AH → Prop} (hw : wp_J6_copyOf p0 p1 h Q) : OKm l D s0 yJ6_copyOf cJ6_copyOf 3 (some (.array .byte)) 1 60 [vA p0, vI p1] h (QA Q) := by
  refine x_metF hG (by decide +kernel) (own := RJ6) (mn := "copyOf") rfl rfl (L0 := [(0, vA p0), (1, vI p1)]) rfl rfl ?_
  intro K C
  unfold wp_J6_copyOf at hw
  refine x_b C (pc' := 2) (L' := [(0, vA p0), (1, vI p1)]) (st' := [vA p0, vI p1]) [(.iload_n 1, 1), (.aload_n 0, 1)] ⟨dJ6_copyOf_0, dJ6_copyOf_1, rfl⟩ rfl ?_
  have hn1 := hw.1
  replace hw := hw.2
  refine x_alen C 41 3 dJ6_copyOf_2 rfl rfl hn1 ?_
  refine x_icmp_ne C 14 6 dJ6_copyOf_3 rfl rfl (fun hc2 => ?_) (fun hc2 => ?_)
  · replace hw := hw.2 hc2
    refine x_b C (pc' := 15) (L' := [(0, vA p0), (1, vI p1)]) (st' := [vI p1]) [(.iload_n 1, 1)] ⟨dJ6_copyOf_14, rfl⟩ rfl ?_
    refine x_newa C 41 (atype := .byte) 17 dJ6_copyOf_15 rfl rfl ⟨by decide, by decide⟩ (by decide) (fun _ _ q => q) q272 hw.1 (fun h3 eh3 => ?_)
    replace hw := hw.2 h3 eh3
    refine x_b C (pc' := 23) (L' := [(2, vA (some h.sz)), (0, vA p0), (1, vI p1)]) (st' := [vA p0, vI 0, vA (some h.sz), vI 0, vA p0]) [(.astore_n 2, 1), (.aload_n 0, 1), (.iconst 0, 1), (.aload_n 2, 1), (.iconst 0, 1), (.aload_n 0, 1)] ⟨dJ6_copyOf_17, dJ6_copyOf_18, dJ6_copyOf_19, dJ6_copyOf_20, dJ6_copyOf_21, dJ6_copyOf_22, rfl⟩ rfl ?_
    have hn4 := hw.1
    replace hw := hw.2
    refine x_alen C 41 24 dJ6_copyOf_23 rfl rfl hn4 ?_
    refine x_b C (pc' := 25) (L' := [(2, vA (some h.sz)), (0, vA p0), (1, vI p1)]) (st' := [vI p1, vI (nI (h3.kd (adr p0)).2), vI 0, vA (some h.sz), vI 0, vA p0]) [(.iload_n 1, 1)] ⟨dJ6_copyOf_24, rfl⟩ rfl ?_
    refine x_mmin C 28 [vI 0, vA (some h.sz), vI 0, vA p0] dJ6_copyOf_25 rfl q392 q393 q166 q394 ⟨rfl, rfl⟩ ?_
    refine x_copyI C 41 31 [] dJ6_copyOf_28 rfl rfl (fun _ _ => rfl) rfl q395 q397 q396 q168 ⟨rfl, rfl⟩ hw.1 (Or.inr hw.2.1) hw.2.2.1 (fun h5 eh5 => ?_)
    replace hw := hw.2.2.2 h5 eh5
    refine x_b C (pc' := 32) (L' := [(2, vA (some h.sz)), (0, vA p0), (1, vI p1)]) (st' := [vA (some h.sz)]) [(.aload_n 2, 1)] ⟨dJ6_copyOf_31, rfl⟩ rfl ?_
    exact x_aret C dJ6_copyOf_32 (Or.inr ⟨_, rfl⟩) ⟨_, rfl, hw⟩
  · replace hw := hw.1 hc2
    refine x_b C (pc' := 7) (L' := [(0, vA p0), (1, vI p1)]) (st' := [vA p0]) [(.aload_n 0, 1)] ⟨dJ6_copyOf_6, rfl⟩ rfl ?_
    refine x_clone C 41 10 [] dJ6_copyOf_7 rfl rfl (fun _ _ => rfl) ⟨by decide, by decide⟩ (fun _ _ q => q) q385 q386 q387 q388 q389 q390 ⟨rfl, rfl⟩ hn1 hw.1 hw.2.1 (fun h6 eh6 => ?_)
    replace hw := hw.2.2 h6 eh6
    have hn7 := hw.1
    replace hw := hw.2
    refine x_castA C 41 13 dJ6_copyOf_10 rfl rfl (fun _ _ q => q) q391 hn7 ?_
    exact x_aret C dJ6_copyOf_13 (Or.inr ⟨_, rfl⟩) ⟨_, rfl, hw⟩
theorem hx_java_lang_AbstractStringBuilder_newCapacity : ("java/lang/AbstractStringBuilder" : String) ≠ "java/lang/invoke/MethodHandle" ∧ ("java/lang/AbstractStringBuilder" : String) ≠ "java/lang/invoke/VarHandle" ∧ (parseMethodDescriptor "(I)I").map (fun d => d.parameters.length) = some 1 := by decide +kernel
def wp_J0_ensureCapacityInternal (o : Nat) (p0 : Int32) (h : AH) (Q : AH → Prop) : Prop :=
  nn h (some o) 21 ∧
  nn h (h.fr 2100 o) 41 ∧
  (((p0 - (jshr (nI (h.kd (adr (h.fr 2100 o))).2) (h.fi 2101 o))) ≤ 0 →
  Q h) ∧ (¬ (p0 - (jshr (nI (h.kd (adr (h.fr 2100 o))).2) (h.fi 2101 o))) ≤ 0 →
  cl h fun mc7 ms8 => wp_J0_newCapacity o p0 (h.srm mc7 ms8) fun r4 h5 => ∀ h6, h6 = h5.srm (h.rc - mc7) (h.rs - ms8) →
  nn h6 (some o) 21 ∧
  cl h6 fun mc14 ms15 => wp_J6_copyOf (h.fr 2100 o) (jshl r4 (h6.fi 2101 o)) (h6.srm mc14 ms15) fun r11 h12 => ∀ h13, h13 = h12.srm (h6.rc - mc14) (h6.rs - ms15) →
  nn h13 (some o) 21 ∧
  ∀ h18, h18 = h13.sfr 2100 o r11 →
  Q h18))
theorem hd_J0_ensureCapacityInternal : yJ0_ensureCapacityInternal.cls = RJ0 ∧ yJ0_ensureCapacityInternal.cls ≠ "java/lang/invoke/MethodHandle" ∧ yJ0_ensureCapacityInternal.cls ≠ "java/lang/invoke/VarHandle" ∧ (parseMethodDescriptor yJ0_ensureCapacityInternal.desc).map (fun d => d.parameters.length) = some 1 := by decide +kernel
theorem ok_J0_ensureCapacityInternal {l : Launch} {D : va_G} {s0 : S0} (hG : G0 D s0) {o : Nat} {p0 : Int32} {h : AH} {Q : AH → Prop} (hw : wp_J0_ensureCapacityInternal o p0 h Q) : OKm l D s0 yJ0_ensureCapacityInternal cJ0_ensureCapacityInternal 3 none 4 130 [vA (some o), vI p0] h (QV Q) := by
  refine x_metF hG (by decide +kernel) (own := RJ0) (mn := "ensureCapacityInternal") rfl rfl (L0 := [(0, vA (some o)), (1, vI p0)]) rfl rfl ?_
  intro K C
  unfold wp_J0_ensureCapacityInternal at hw
  refine x_b C (pc' := 1) (L' := [(0, vA (some o)), (1, vI p0)]) (st' := [vA (some o)]) [(.aload_n 0, 1)] ⟨dJ0_ensureCapacityInternal_0, rfl⟩ rfl ?_
  have hn1 := hw.1
  replace hw := hw.2
  refine x_get C 21 0 (pc' := 4) (v := vA (h.fr 2100 o)) dJ0_ensureCapacityInternal_1 rfl rfl rfl q343 rfl hn1 ?_
  have hn2 := hw.1
  replace hw := hw.2
  refine x_alen C 41 5 dJ0_ensureCapacityInternal_4 rfl rfl hn2 ?_
  refine x_b C (pc' := 6) (L' := [(0, vA (some o)), (1, vI p0)]) (st' := [vA (some o), vI (nI (h.kd (adr (h.fr 2100 o))).2)]) [(.aload_n 0, 1)] ⟨dJ0_ensureCapacityInternal_5, rfl⟩ rfl ?_
  refine x_get C 21 1 (pc' := 9) (v := vI (h.fi 2101 o)) dJ0_ensureCapacityInternal_6 rfl rfl rfl q344 rfl hn1 ?_
  refine x_b C (pc' := 14) (L' := [(2, vI (jshr (nI (h.kd (adr (h.fr 2100 o))).2) (h.fi 2101 o))), (0, vA (some o)), (1, vI p0)]) (st' := [vI (p0 - (jshr (nI (h.kd (adr (h.fr 2100 o))).2) (h.fi 2101 o)))]) [(.ishr, 1), (.istore_n 2, 1), (.iload_n 1, 1), (.iload_n 2, 1), (.isub, 1)] ⟨dJ0_ensureCapacityInternal_9, dJ0_ensureCapacityInternal_10, dJ0_ensureCapacityInternal_11, dJ0_ensureCapacityInternal_12, dJ0_ensureCapacityInternal_13, rfl⟩ rfl ?_
  refine x_if_le C 38 17 dJ0_ensureCapacityInternal_14 rfl rfl (fun hc3 => ?_) (fun hc3 => ?_)
  · replace hw := hw.1 hc3
    exact x_vret C dJ0_ensureCapacityInternal_38 ⟨rfl, hw⟩
  · replace hw := hw.2 hc3
    refine x_b C (pc' := 19) (L' := [(2, vI (jshr (nI (h.kd (adr (h.fr 2100 o))).2) (h.fi 2101 o))), (0, vA (some o)), (1, vI p0)]) (st' := [vA (some o), vA (some o)]) [(.aload_n 0, 1), (.aload_n 0, 1)] ⟨dJ0_ensureCapacityInternal_17, dJ0_ensureCapacityInternal_18, rfl⟩ rfl ?_
    refine x_get C 21 0 (pc' := 22) (v := vA (h.fr 2100 o)) dJ0_ensureCapacityInternal_19 rfl rfl rfl q343 rfl hn1 ?_
    refine x_b C (pc' := 24) (L' := [(2, vI (jshr (nI (h.kd (adr (h.fr 2100 o))).2) (h.fi 2101 o))), (0, vA (some o)), (1, vI p0)]) (st' := [vI p0, vA (some o), vA (h.fr 2100 o), vA (some o)]) [(.aload_n 0, 1), (.iload_n 1, 1)] ⟨dJ0_ensureCapacityInternal_22, dJ0_ensureCapacityInternal_23, rfl⟩ rfl ?_
    obtain ⟨mc7, ms8, hle9, hw⟩ := hw
    refine x_cP C 21 27 (mc2 := mc7) (ms2 := ms8) [vI p0] [vA (h.fr 2100 o), vA (some o)] dJ0_ensureCapacityInternal_24 rfl (ok_J0_newCapacity hG hw) hle9 q367 q2923 q401 q368 q369 q161 q370 rfl rfl hx_java_lang_AbstractStringBuilder_newCapacity ⟨rfl, rfl, rfl⟩ hn1 (fun v9 h5 h6 hq9 eh6 => ?_)
    obtain ⟨r4, rfl, hw⟩ := hq9
    replace hw := hw h6 eh6
    refine x_b C (pc' := 28) (L' := [(2, vI (jshr (nI (h.kd (adr (h.fr 2100 o))).2) (h.fi 2101 o))), (0, vA (some o)), (1, vI p0)]) (st' := [vA (some o), vI r4, vA (h.fr 2100 o), vA (some o)]) [(.aload_n 0, 1)] ⟨dJ0_ensureCapacityInternal_27, rfl⟩ rfl ?_
    have hn10 := hw.1
    replace hw := hw.2
    refine x_get C 21 1 (pc' := 31) (v := vI (h6.fi 2101 o)) dJ0_ensureCapacityInternal_28 rfl rfl rfl q344 rfl hn10 ?_
    refine x_b C (pc' := 32) (L' := [(2, vI (jshr (nI (h.kd (adr (h.fr 2100 o))).2) (h.fi 2101 o))), (0, vA (some o)), (1, vI p0)]) (st' := [vI (jshl r4 (h6.fi 2101 o)), vA (h.fr 2100 o), vA (some o)]) [(.ishl, 1)] ⟨dJ0_ensureCapacityInternal_31, rfl⟩ rfl ?_
    obtain ⟨mc14, ms15, hle16, hw⟩ := hw
    refine x_cS C 35 (mc2 := mc14) (ms2 := ms15) [vA (h.fr 2100 o), vI (jshl r4 (h6.fi 2101 o))] [vA (some o)] dJ0_ensureCapacityInternal_32 rfl (ok_J6_copyOf hG hw) hle16 q382 q383 q167 q384 hd_J6_copyOf ⟨rfl, rfl, rfl⟩ (fun v9 h12 h13 hq9 eh13 => ?_)
    obtain ⟨r11, rfl, hw⟩ := hq9
    replace hw := hw h13 eh13
    have hn17 := hw.1
    replace hw := hw.2
    refine x_pA C 21 0 38 dJ0_ensureCapacityInternal_35 rfl rfl rfl rfl q343 (fun _ _ _ => rfl) (rf_n2 _) (rf_f2 _) hn17 (Or.inl rfl) (fun h18 eh18 => ?_)
    replace hw := hw h18 eh18
    exact x_vret C dJ0_ensureCapacityInternal_38 ⟨rfl, hw⟩
def wp_J0_isLatin1 (o : Nat) (h : AH) (Q : Int32 → AH → Prop) : Prop :=
  nn h (some o) 21 ∧
  ∀ m2 : Int32, m2 = (if (h.fi 2101 o) = 0 then 1 else 0) →
  bz m2 ∧ Q m2 h
theorem hd_J0_isLatin1 : yJ0_isLatin1.cls = RJ0 ∧ yJ0_isLatin1.cls ≠ "java/lang/invoke/MethodHandle" ∧ yJ0_isLatin1.cls ≠ "java/lang/invoke/VarHandle" ∧ (parseMethodDescriptor yJ0_isLatin1.desc).map (fun d => d.parameters.length) = some 0 := by decide +kernel
theorem ok_J0_isLatin1 {l : Launch} {D : va_G} {s0 : S0} (hG : G0 D s0) {o : Nat} {h : AH} {Q : Int32 → AH → Prop} (hw : wp_J0_isLatin1 o h Q) : OKm l D s0 yJ0_isLatin1 cJ0_isLatin1 1 (some .boolean) 0 0 [vA (some o)] h (QI Q) := by
  refine x_metF hG (by decide +kernel) (own := RJ0) (mn := "isLatin1") rfl rfl (L0 := [(0, vA (some o))]) rfl rfl ?_
  intro K C
  unfold wp_J0_isLatin1 at hw
  refine x_gets C 3 (v := vI 1) dJ0_isLatin1_0 rfl z_cs q334 ?_
  refine x_if_eq C 17 6 dJ0_isLatin1_3 rfl rfl (fun hc => absurd hc (by decide)) (fun _ => ?_)
  refine x_b C (pc' := 7) (L' := [(0, vA (some o))]) (st' := [vA (some o)]) [(.aload_n 0, 1)] ⟨dJ0_isLatin1_6, rfl⟩ rfl ?_
  have hn1 := hw.1
  replace hw := hw.2
  refine x_get C 21 1 (pc' := 10) (v := vI (h.fi 2101 o)) dJ0_isLatin1_7 rfl rfl rfl q344 rfl hn1 ?_
  have kj3 : ∀ (m2 : Int32), m2 = (if (h.fi 2101 o) = 0 then 1 else 0) → K 18 [] [vI m2] h := by
    intro m2 em2
    replace hw := hw m2 em2
    exact x_zret C dJ0_isLatin1_18 (bz_n hw.1) ⟨_, rfl, hw.2⟩
  refine x_if_ne C 17 13 dJ0_isLatin1_10 rfl rfl (fun hc4 => ?_) (fun hc4 => ?_)
  · refine x_b C (pc' := 18) (L' := [(0, vA (some o))]) (st' := [vI 0]) [(.iconst 0, 1)] ⟨dJ0_isLatin1_17, rfl⟩ rfl ?_
    refine x_sub C (L' := []) [] rfl ?_
    exact kj3 _ ((if_neg hc4).symm)
  · refine x_b C (pc' := 14) (L' := [(0, vA (some o))]) (st' := [vI 1]) [(.iconst 1, 1)] ⟨dJ0_isLatin1_13, rfl⟩ rfl ?_
    refine x_goto C 18 dJ0_isLatin1_14 rfl ?_
    refine x_sub C (L' := []) [] rfl ?_
    exact kj3 _ ((if_pos hc4).symm)
def wp_J3_newBytesLength (p0 : Int32) (h : AH) (Q : Int32 → AH → Prop) : Prop :=
  ((0 ≤ p0 →
  ((p0 < 1073741823 →
  Q (jshl p0 1) h) ∧ (¬ p0 < 1073741823 →
  False))) ∧ (¬ 0 ≤ p0 →
  False))
theorem hd_J3_newBytesLength : yJ3_newBytesLength.cls ≠ "java/lang/invoke/MethodHandle" ∧ yJ3_newBytesLength.cls ≠ "java/lang/invoke/VarHandle" ∧ (parseMethodDescriptor yJ3_newBytesLength.desc).map (fun d => d.parameters.length) = some 1 := by decide +kernel
theorem ok_J3_newBytesLength {l : Launch} {D : va_G} {s0 : S0} (hG : G0 D s0) {p0 : Int32} {h : AH} {Q : Int32 → AH → Prop} (hw : wp_J3_newBytesLength p0 h Q) : OKm l D s0 yJ3_newBytesLength cJ3_newBytesLength 1 (some .int) 1 60 [vI p0] h (QI Q) := by
  refine x_metF hG (by decide +kernel) (own := RJ3) (mn := "newBytesLength") rfl rfl (L0 := [(0, vI p0)]) rfl rfl ?_
  intro K C
  unfold wp_J3_newBytesLength at hw
  refine x_b C (pc' := 1) (L' := [(0, vI p0)]) (st' := [vI p0]) [(.iload_n 0, 1)] ⟨dJ3_newBytesLength_0, rfl⟩ rfl ?_
  refine x_if_ge C 12 4 dJ3_newBytesLength_1 rfl rfl (fun hc1 => ?_) (fun hc1 => ?_)
  · replace hw := hw.1 hc1
    refine x_b C (pc' := 13) (L' := [(0, vI p0)]) (st' := [vI p0]) [(.iload_n 0, 1)] ⟨dJ3_newBytesLength_12, rfl⟩ rfl ?_
    refine x_ldc C (v := 1073741823) 15 dJ3_newBytesLength_13 rfl q342 ?_
    refine x_icmp_lt C 55 18 dJ3_newBytesLength_15 rfl rfl (fun hc2 => ?_) (fun hc2 => ?_)
    · replace hw := hw.1 hc2
      refine x_b C (pc' := 58) (L' := [(0, vI p0)]) (st' := [vI (jshl p0 1)]) [(.iload_n 0, 1), (.iconst 1, 1), (.ishl, 1)] ⟨dJ3_newBytesLength_55, dJ3_newBytesLength_56, dJ3_newBytesLength_57, rfl⟩ rfl ?_
      exact x_iret C dJ3_newBytesLength_58 ⟨_, rfl, hw⟩
    · replace hw := hw.2 hc2
      exact hw.elim
  · replace hw := hw.2 hc1
    exact hw.elim
def wp_J3_newBytesFor (p0 : Int32) (h : AH) (Q : Option Nat → AH → Prop) : Prop :=
  cl h fun mc4 ms5 => wp_J3_newBytesLength p0 (h.srm mc4 ms5) fun r1 h2 => ∀ h3, h3 = h2.srm (h.rc - mc4) (h.rs - ms5) →
  nl h3 r1 ∧
  ∀ h7, h7 = h3.new 41 (ni r1) (ni r1) →
  Q (some h3.sz) h7
theorem hd_J3_newBytesFor : yJ3_newBytesFor.cls ≠ "java/lang/invoke/MethodHandle" ∧ yJ3_newBytesFor.cls ≠ "java/lang/invoke/VarHandle" ∧ (parseMethodDescriptor yJ3_newBytesFor.desc).map (fun d => d.parameters.length) = some 1 := by decide +kernel
theorem ok_J3_newBytesFor {l : Launch} {D : va_G} {s0 : S0} (hG : G0 D s0) {p0 : Int32} {h : AH} {Q : Option Nat → AH → Prop} (hw : wp_J3_newBytesFor p0 h Q) : OKm l D s0 yJ3_newBytesFor cJ3_newBytesFor 1 (some (.array .byte)) 2 80 [vI p0] h (QA Q) := by
  refine x_metF hG (by decide +kernel) (own := RJ3) (mn := "newBytesFor") rfl rfl (L0 := [(0, vI p0)]) rfl rfl ?_
  intro K C
  unfold wp_J3_newBytesFor at hw
  refine x_b C (pc' := 1) (L' := [(0, vI p0)]) (st' := [vI p0]) [(.iload_n 0, 1)] ⟨dJ3_newBytesFor_0, rfl⟩ rfl ?_
  obtain ⟨mc4, ms5, hle6, hw⟩ := hw
  refine x_cS C 4 (mc2 := mc4) (ms2 := ms5) [vI p0] [] dJ3_newBytesFor_1 rfl (ok_J3_newBytesLength hG hw) hle6 q339 q340 q164 q341 hd_J3_newBytesLength ⟨rfl, rfl, rfl⟩ (fun v9 h2 h3 hq9 eh3 => ?_)
  obtain ⟨r1, rfl, hw⟩ := hq9
  replace hw := hw h3 eh3
  refine x_newa C 41 (atype := .byte) 6 dJ3_newBytesFor_4 rfl rfl ⟨by decide, by decide⟩ (by decide) (fun _ _ q => q) q272 hw.1 (fun h7 eh7 => ?_)
  replace hw := hw.2 h7 eh7
  exact x_aret C dJ3_newBytesFor_6 (Or.inr ⟨_, rfl⟩) ⟨_, rfl, hw⟩
def wp_J8_checkFromIndexSize (p0 : Int32) (p1 : Int32) (p2 : Int32) (p3 : Option Nat) (h : AH) (Q : Int32 → AH → Prop) : Prop :=
  (((¬ (((p2 ||| p0) ||| p1) < 0) ∧ (p1 ≤ (p2 - p0))) →
  Q p0 h) ∧ (¬ (¬ (((p2 ||| p0) ||| p1) < 0) ∧ (p1 ≤ (p2 - p0))) →
  False))
theorem hd_J8_checkFromIndexSize : yJ8_checkFromIndexSize.cls ≠ "java/lang/invoke/MethodHandle" ∧ yJ8_checkFromIndexSize.cls ≠ "java/lang/invoke/VarHandle" ∧ (parseMethodDescriptor yJ8_checkFromIndexSize.desc).map (fun d => d.parameters.length) = some 4 := by decide +kernel
theorem ok_J8_checkFromIndexSize {l : Launch} {D : va_G} {s0 : S0} (hG : G0 D s0) {p0 : Int32} {p1 : Int32} {p2 : Int32} {p3 : Option Nat} {h : AH} {Q : Int32 → AH → Prop} (hw : wp_J8_checkFromIndexSize p0 p1 p2 p3 h Q) : OKm l D s0 yJ8_checkFromIndexSize cJ8_checkFromIndexSize 4 (some .int) 1 60 [vI p0, vI p1, vI p2, vA p3] h (QI Q) := by
  refine x_metF hG (by decide +kernel) (own := RJ8) (mn := "checkFromIndexSize") rfl rfl (L0 := [(0, vI p0), (1, vI p1), (2, vI p2), (3, vA p3)]) rfl rfl ?_
  intro K C
  unfold wp_J8_checkFromIndexSize at hw
  refine x_b C (pc' := 5) (L' := [(0, vI p0), (1, vI p1), (2, vI p2), (3, vA p3)]) (st' := [vI ((p2 ||| p0) ||| p1)]) [(.iload_n 2, 1), (.iload_n 0, 1), (.ior, 1), (.iload_n 1, 1), (.ior, 1)] ⟨dJ8_checkFromIndexSize_0, dJ8_checkFromIndexSize_1, dJ8_checkFromIndexSize_2, dJ8_checkFromIndexSize_3, dJ8_checkFromIndexSize_4, rfl⟩ rfl ?_
  have kx1 : (¬ (((p2 ||| p0) ||| p1) < 0) ∧ (p1 ≤ (p2 - p0))) → K 24 [(0, vI p0), (1, vI p1), (2, vI p2), (3, vA p3)] [vI p0] h := by
    intro hcc
    replace hw := hw.1 hcc
    exact x_iret C dJ8_checkFromIndexSize_24 ⟨_, rfl, hw⟩
  have ky2 : ¬ (¬ (((p2 ||| p0) ||| p1) < 0) ∧ (p1 ≤ (p2 - p0))) → K 15 [(0, vI p0), (1, vI p1), (2, vI p2), (3, vA p3)] [] h := by
    intro hcc
    replace hw := hw.2 hcc
    refine x_b C (pc' := 19) (L' := [(0, vI p0), (1, vI p1), (2, vI p2), (3, vA p3)]) (st' := [vI p2, vI p1, vI p0, vA p3]) [(.aload_n 3, 1), (.iload_n 0, 1), (.iload_n 1, 1), (.iload_n 2, 1)] ⟨dJ8_checkFromIndexSize_15, dJ8_checkFromIndexSize_16, dJ8_checkFromIndexSize_17, dJ8_checkFromIndexSize_18, rfl⟩ rfl ?_
    exact hw.elim
  refine x_if_lt C 15 8 dJ8_checkFromIndexSize_5 rfl rfl (fun hc3 => ?_) (fun hc3 => ?_)
  · exact ky2 (fun h0 => (fun h0 => h0 hc3) h0.1)
  · refine x_b C (pc' := 12) (L' := [(0, vI p0), (1, vI p1), (2, vI p2), (3, vA p3)]) (st' := [vI (p2 - p0), vI p1]) [(.iload_n 1, 1), (.iload_n 2, 1), (.iload_n 0, 1), (.isub, 1)] ⟨dJ8_checkFromIndexSize_8, dJ8_checkFromIndexSize_9, dJ8_checkFromIndexSize_10, dJ8_checkFromIndexSize_11, rfl⟩ rfl ?_
    refine x_icmp_le C 23 15 dJ8_checkFromIndexSize_12 rfl rfl (fun hc4 => ?_) (fun hc4 => ?_)
    · refine x_b C (pc' := 24) (L' := [(0, vI p0), (1, vI p1), (2, vI p2), (3, vA p3)]) (st' := [vI p0]) [(.iload_n 0, 1)] ⟨dJ8_checkFromIndexSize_23, rfl⟩ rfl ?_
      exact kx1 ⟨hc3, hc4⟩
    · exact ky2 (fun h0 => hc4 h0.2)
def wp_J2_checkBoundsOffCount (p0 : Int32) (p1 : Int32) (p2 : Int32) (h : AH) (Q : Int32 → AH → Prop) : Prop :=
  wp_J8_checkFromIndexSize p0 p1 p2 (sref (h.cs 506)) (h.srm 0 0) fun r1 h2 => ∀ h3, h3 = h2.srm h.rc h.rs →
  Q r1 h3
theorem hd_J2_checkBoundsOffCount : yJ2_checkBoundsOffCount.cls ≠ "java/lang/invoke/MethodHandle" ∧ yJ2_checkBoundsOffCount.cls ≠ "java/lang/invoke/VarHandle" ∧ (parseMethodDescriptor yJ2_checkBoundsOffCount.desc).map (fun d => d.parameters.length) = some 3 := by decide +kernel
theorem ok_J2_checkBoundsOffCount {l : Launch} {D : va_G} {s0 : S0} (hG : G0 D s0) {p0 : Int32} {p1 : Int32} {p2 : Int32} {h : AH} {Q : Int32 → AH → Prop} (hw : wp_J2_checkBoundsOffCount p0 p1 p2 h Q) : OKm l D s0 yJ2_checkBoundsOffCount cJ2_checkBoundsOffCount 3 (some .int) 2 83 [vI p0, vI p1, vI p2] h (QI Q) := by
  refine x_metF hG (by decide +kernel) (own := RJ2) (mn := "checkBoundsOffCount") rfl rfl (L0 := [(0, vI p0), (1, vI p1), (2, vI p2)]) rfl rfl ?_
  intro K C
  unfold wp_J2_checkBoundsOffCount at hw
  refine x_b C (pc' := 3) (L' := [(0, vI p0), (1, vI p1), (2, vI p2)]) (st' := [vI p2, vI p1, vI p0]) [(.iload_n 0, 1), (.iload_n 1, 1), (.iload_n 2, 1)] ⟨dJ2_checkBoundsOffCount_0, dJ2_checkBoundsOffCount_1, dJ2_checkBoundsOffCount_2, rfl⟩ rfl ?_
  refine x_getsR C 506 6 dJ2_checkBoundsOffCount_3 rfl z_sf q425 ?_
  refine x_cS C 9 (mc2 := 0) (ms2 := 0) [vI p0, vI p1, vI p2, vA (sref (h.cs 506))] [] dJ2_checkBoundsOffCount_6 rfl (ok_J8_checkFromIndexSize hG hw) ⟨Nat.zero_le _, Nat.zero_le _⟩ q427 q428 q170 q429 hd_J8_checkFromIndexSize ⟨rfl, rfl, rfl⟩ (fun v9 h2 h3 hq9 eh3 => ?_)
  obtain ⟨r1, rfl, hw⟩ := hq9
  replace hw := hw h3 eh3
  exact x_iret C dJ2_checkBoundsOffCount_9 ⟨_, rfl, hw⟩
def wp_J3_length (p0 : Option Nat) (h : AH) (Q : Int32 → AH → Prop) : Prop :=
  nn h p0 41 ∧
  Q (jshr (nI (h.kd (adr p0)).2) 1) h
theorem hd_J3_length : yJ3_length.cls ≠ "java/lang/invoke/MethodHandle" ∧ yJ3_length.cls ≠ "java/lang/invoke/VarHandle" ∧ (parseMethodDescriptor yJ3_length.desc).map (fun d => d.parameters.length) = some 1 := by decide +kernel
theorem ok_J3_length {l : Launch} {D : va_G} {s0 : S0} (hG : G0 D s0) {p0 : Option Nat} {h : AH} {Q : Int32 → AH → Prop} (hw : wp_J3_length p0 h Q) : OKm l D s0 yJ3_length cJ3_length 1 (some .int) 0 0 [vA p0] h (QI Q) := by
  refine x_metF hG (by decide +kernel) (own := RJ3) (mn := "length") rfl rfl (L0 := [(0, vA p0)]) rfl rfl ?_
  intro K C
  unfold wp_J3_length at hw
  refine x_b C (pc' := 1) (L' := [(0, vA p0)]) (st' := [vA p0]) [(.aload_n 0, 1)] ⟨dJ3_length_0, rfl⟩ rfl ?_
  have hn1 := hw.1
  replace hw := hw.2
  refine x_alen C 41 2 dJ3_length_1 rfl rfl hn1 ?_
  refine x_b C (pc' := 4) (L' := [(0, vA p0)]) (st' := [vI (jshr (nI (h.kd (adr p0)).2) 1)]) [(.iconst 1, 1), (.ishr, 1)] ⟨dJ3_length_2, dJ3_length_3, rfl⟩ rfl ?_
  exact x_iret C dJ3_length_4 ⟨_, rfl, hw⟩
def wp_J3_checkBoundsOffCount (p0 : Int32) (p1 : Int32) (p2 : Option Nat) (h : AH) (Q : AH → Prop) : Prop :=
  wp_J3_length p2 (h.srm 0 0) fun r1 h2 => ∀ h3, h3 = h2.srm h.rc h.rs →
  wp_J2_checkBoundsOffCount p0 p1 r1 (h3.srm 0 0) fun r4 h5 => ∀ h6, h6 = h5.srm h3.rc h3.rs →
  Q h6
theorem hd_J3_checkBoundsOffCount : yJ3_checkBoundsOffCount.cls ≠ "java/lang/invoke/MethodHandle" ∧ yJ3_checkBoundsOffCount.cls ≠ "java/lang/invoke/VarHandle" ∧ (parseMethodDescriptor yJ3_checkBoundsOffCount.desc).map (fun d => d.parameters.length) = some 3 := by decide +kernel
theorem ok_J3_checkBoundsOffCount {l : Launch} {D : va_G} {s0 : S0} (hG : G0 D s0) {p0 : Int32} {p1 : Int32} {p2 : Option Nat} {h : AH} {Q : AH → Prop} (hw : wp_J3_checkBoundsOffCount p0 p1 p2 h Q) : OKm l D s0 yJ3_checkBoundsOffCount cJ3_checkBoundsOffCount 3 none 3 105 [vI p0, vI p1, vA p2] h (QV Q) := by
  refine x_metF hG (by decide +kernel) (own := RJ3) (mn := "checkBoundsOffCount") rfl rfl (L0 := [(0, vI p0), (1, vI p1), (2, vA p2)]) rfl rfl ?_
  intro K C
  unfold wp_J3_checkBoundsOffCount at hw
  refine x_b C (pc' := 3) (L' := [(0, vI p0), (1, vI p1), (2, vA p2)]) (st' := [vA p2, vI p1, vI p0]) [(.iload_n 0, 1), (.iload_n 1, 1), (.aload_n 2, 1)] ⟨dJ3_checkBoundsOffCount_0, dJ3_checkBoundsOffCount_1, dJ3_checkBoundsOffCount_2, rfl⟩ rfl ?_
  refine x_cS C 6 (mc2 := 0) (ms2 := 0) [vA p2] [vI p1, vI p0] dJ3_checkBoundsOffCount_3 rfl (ok_J3_length hG hw) ⟨Nat.zero_le _, Nat.zero_le _⟩ q419 q420 q164 q421 hd_J3_length ⟨rfl, rfl, rfl⟩ (fun v9 h2 h3 hq9 eh3 => ?_)
  obtain ⟨r1, rfl, hw⟩ := hq9
  replace hw := hw h3 eh3
  refine x_cS C 9 (mc2 := 0) (ms2 := 0) [vI p0, vI p1, vI r1] [] dJ3_checkBoundsOffCount_6 rfl (ok_J2_checkBoundsOffCount hG hw) ⟨Nat.zero_le _, Nat.zero_le _⟩ q422 q423 q163 q424 hd_J2_checkBoundsOffCount ⟨rfl, rfl, rfl⟩ (fun v9 h5 h6 hq9 eh6 => ?_)
  obtain ⟨r4, rfl, hw⟩ := hq9
  replace hw := hw h6 eh6
  refine x_b C (pc' := 10) (L' := [(0, vI p0), (1, vI p1), (2, vA p2)]) (st' := []) [(.pop, 1)] ⟨dJ3_checkBoundsOffCount_9, rfl⟩ rfl ?_
  exact x_vret C dJ3_checkBoundsOffCount_10 ⟨rfl, hw⟩
def wp_J3_putChar (p0 : Option Nat) (p1 : Int32) (p2 : Int32) (h : AH) (Q : AH → Prop) : Prop :=
  ix h p0 41 (jshl p1 1) ∧
  h.lo ≤ (adr p0) ∧
  ∀ h1, h1 = h.sai (adr p0) (ni (jshl p1 1)) (vp_nar .byte (Int8.toInt32 (Int32.toInt8 (jshr p2 0)))) →
  ix h1 p0 41 ((jshl p1 1) + 1) ∧
  h1.lo ≤ (adr p0) ∧
  ∀ h2, h2 = h1.sai (adr p0) (ni ((jshl p1 1) + 1)) (vp_nar .byte (Int8.toInt32 (Int32.toInt8 (jshr p2 8)))) →
  Q h2
theorem hd_J3_putChar : yJ3_putChar.cls ≠ "java/lang/invoke/MethodHandle" ∧ yJ3_putChar.cls ≠ "java/lang/invoke/VarHandle" ∧ (parseMethodDescriptor yJ3_putChar.desc).map (fun d => d.parameters.length) = some 3 := by decide +kernel
theorem ok_J3_putChar {l : Launch} {D : va_G} {s0 : S0} (hG : G0 D s0) {p0 : Option Nat} {p1 : Int32} {p2 : Int32} {h : AH} {Q : AH → Prop} (hw : wp_J3_putChar p0 p1 p2 h Q) : OKm l D s0 yJ3_putChar cJ3_putChar 3 none 1 60 [vA p0, vI p1, vI p2] h (QV Q) := by
  refine x_metF hG (by decide +kernel) (own := RJ3) (mn := "putChar") rfl rfl (L0 := [(0, vA p0), (1, vI p1), (2, vI p2)]) rfl rfl ?_
  intro K C
  unfold wp_J3_putChar at hw
  refine x_gets C 3 (v := vI 1) dJ3_putChar_0 rfl z_ad q433 ?_
  refine x_if_ne C 28 6 dJ3_putChar_3 rfl rfl (fun _ => ?_) (fun hc => absurd hc (by decide))
  refine x_b C (pc' := 38) (L' := [(1, vI ((jshl p1 1) + 1)), (0, vA p0), (2, vI p2)]) (st' := [vI p2, vI (jshl p1 1), vA p0]) [(.iload_n 1, 1), (.iconst 1, 1), (.ishl, 1), (.istore_n 1, 1), (.aload_n 0, 1), (.iload_n 1, 1), (.iinc 1 1, 3), (.iload_n 2, 1)] ⟨dJ3_putChar_28, dJ3_putChar_29, dJ3_putChar_30, dJ3_putChar_31, dJ3_putChar_32, dJ3_putChar_33, dJ3_putChar_34, dJ3_putChar_37, rfl⟩ rfl ?_
  refine x_gets C 41 (v := vI 0) dJ3_putChar_38 rfl z_hi q435 ?_
  refine x_b C (pc' := 43) (L' := [(1, vI ((jshl p1 1) + 1)), (0, vA p0), (2, vI p2)]) (st' := [vI (Int8.toInt32 (Int32.toInt8 (jshr p2 0))), vI (jshl p1 1), vA p0]) [(.ishr, 1), (.i2b, 1)] ⟨dJ3_putChar_41, dJ3_putChar_42, rfl⟩ rfl ?_
  refine y_bast C 44 dJ3_putChar_43 rfl hw.1 (Or.inr hw.2.1) (fun h1 eh1 => ?_)
  replace hw := hw.2.2 h1 eh1
  refine x_b C (pc' := 47) (L' := [(1, vI ((jshl p1 1) + 1)), (0, vA p0), (2, vI p2)]) (st' := [vI p2, vI ((jshl p1 1) + 1), vA p0]) [(.aload_n 0, 1), (.iload_n 1, 1), (.iload_n 2, 1)] ⟨dJ3_putChar_44, dJ3_putChar_45, dJ3_putChar_46, rfl⟩ rfl ?_
  refine x_gets C 50 (v := vI 8) dJ3_putChar_47 rfl z_lob q437 ?_
  refine x_b C (pc' := 52) (L' := [(1, vI ((jshl p1 1) + 1)), (0, vA p0), (2, vI p2)]) (st' := [vI (Int8.toInt32 (Int32.toInt8 (jshr p2 8))), vI ((jshl p1 1) + 1), vA p0]) [(.ishr, 1), (.i2b, 1)] ⟨dJ3_putChar_50, dJ3_putChar_51, rfl⟩ rfl ?_
  refine y_bast C 53 dJ3_putChar_52 rfl hw.1 (Or.inr hw.2.1) (fun h2 eh2 => ?_)
  replace hw := hw.2.2 h2 eh2
  exact x_vret C dJ3_putChar_53 ⟨rfl, hw⟩
def wp_J3_inflate (p0 : Option Nat) (p1 : Int32) (p2 : Option Nat) (p3 : Int32) (p4 : Int32) (h : AH) (Q : AH → Prop) : Prop :=
  wp_J3_checkBoundsOffCount p3 p4 p2 (h.srm 0 0) fun h2 => ∀ h3, h3 = h2.srm h.rc h.rs →
  xlp (σ := Int32 × Int32 × Int32) (fun s4 T5 k4 =>
  ((p4 ≤ s4.2.2 →
  Q T5) ∧ (¬ p4 ≤ s4.2.2 →
  ix T5 p0 41 s4.1 ∧
  cl T5 fun mc10 ms11 => wp_J3_putChar p2 (s4.2.1) ((T5.ai (adr p0) (ni s4.1)) &&& 255) (T5.srm mc10 ms11) fun h8 => ∀ h9, h9 = h8.srm (T5.rc - mc10) (T5.rs - ms11) →
  k4 ((s4.1 + 1), (s4.2.1 + 1), (s4.2.2 + 1)) h9))) (p1, p3, 0) h3
theorem hd_J3_inflate : yJ3_inflate.cls ≠ "java/lang/invoke/MethodHandle" ∧ yJ3_inflate.cls ≠ "java/lang/invoke/VarHandle" ∧ (parseMethodDescriptor yJ3_inflate.desc).map (fun d => d.parameters.length) = some 5 := by decide +kernel
theorem ok_J3_inflate {l : Launch} {D : va_G} {s0 : S0} (hG : G0 D s0) {p0 : Option Nat} {p1 : Int32} {p2 : Option Nat} {p3 : Int32} {p4 : Int32} {h : AH} {Q : AH → Prop} (hw : wp_J3_inflate p0 p1 p2 p3 p4 h Q) : OKm l D s0 yJ3_inflate cJ3_inflate 6 none 4 127 [vA p0, vI p1, vA p2, vI p3, vI p4] h (QV Q) := by
  refine x_metF hG (by decide +kernel) (own := RJ3) (mn := "inflate") rfl rfl (L0 := [(0, vA p0), (1, vI p1), (2, vA p2), (3, vI p3), (4, vI p4)]) rfl rfl ?_
  intro K C
  unfold wp_J3_inflate at hw
  refine x_b C (pc' := 4) (L' := [(0, vA p0), (1, vI p1), (2, vA p2), (3, vI p3), (4, vI p4)]) (st' := [vA p2, vI p4, vI p3]) [(.iload_n 3, 1), (.iload 4, 2), (.aload_n 2, 1)] ⟨dJ3_inflate_0, dJ3_inflate_1, dJ3_inflate_3, rfl⟩ rfl ?_
  refine x_cS C 7 (mc2 := 0) (ms2 := 0) [vI p3, vI p4, vA p2] [] dJ3_inflate_4 rfl (ok_J3_checkBoundsOffCount hG hw) ⟨Nat.zero_le _, Nat.zero_le _⟩ q416 q417 q164 q418 hd_J3_checkBoundsOffCount ⟨rfl, rfl, rfl⟩ (fun v9 h2 h3 hq9 eh3 => ?_)
  obtain ⟨rfl, hw⟩ := hq9
  replace hw := hw h3 eh3
  refine x_b C (pc' := 10) (L' := [(5, vI 0), (0, vA p0), (1, vI p1), (2, vA p2), (3, vI p3), (4, vI p4)]) (st' := []) [(.iconst 0, 1), (.istore 5, 2)] ⟨dJ3_inflate_7, dJ3_inflate_8, rfl⟩ rfl ?_
  obtain ⟨I4, ⟨n4, hI4⟩, hB4⟩ := xlp.out hw
  refine x_sub C (L' := [(0, vA p0), (1, vI p1), (2, vA p2), (3, vI p3), (4, vI p4), (5, vI 0)]) [1, 2, 3, 4, 5, 0] rfl ?_
  have key4 : ∀ (n : Nat) (s4 : Int32 × Int32 × Int32) (T5 : AH), I4 n s4 T5 → K 10 [(0, vA p0), (1, vI (s4.1)), (2, vA p2), (3, vI (s4.2.1)), (4, vI p4), (5, vI (s4.2.2))] [] T5 := by
    intro n
    induction n using Nat.strongRecOn with
    | ind n ih4 =>
      intro s4 T5 hI
      replace hw := hB4 n s4 T5 hI
      refine x_b C (pc' := 14) (L' := [(0, vA p0), (1, vI (s4.1)), (2, vA p2), (3, vI (s4.2.1)), (4, vI p4), (5, vI (s4.2.2))]) (st' := [vI p4, vI (s4.2.2)]) [(.iload 5, 2), (.iload 4, 2)] ⟨dJ3_inflate_10, dJ3_inflate_12, rfl⟩ rfl ?_
      refine x_icmp_ge C 41 17 dJ3_inflate_14 rfl rfl (fun hc6 => ?_) (fun hc6 => ?_)
      · replace hw := hw.1 hc6
        exact x_vret C dJ3_inflate_41 ⟨rfl, hw⟩
      · replace hw := hw.2 hc6
        refine x_b C (pc' := 27) (L' := [(1, vI (s4.1 + 1)), (3, vI (s4.2.1 + 1)), (0, vA p0), (2, vA p2), (4, vI p4), (5, vI (s4.2.2))]) (st' := [vI (s4.1), vA p0, vI (s4.2.1), vA p2]) [(.aload_n 2, 1), (.iload_n 3, 1), (.iinc 3 1, 3), (.aload_n 0, 1), (.iload_n 1, 1), (.iinc 1 1, 3)] ⟨dJ3_inflate_17, dJ3_inflate_18, dJ3_inflate_19, dJ3_inflate_22, dJ3_inflate_23, dJ3_inflate_24, rfl⟩ rfl ?_
        refine x_bald C 28 dJ3_inflate_27 rfl hw.1 ?_
        replace hw := hw.2
        refine x_b C (pc' := 32) (L' := [(1, vI (s4.1 + 1)), (3, vI (s4.2.1 + 1)), (0, vA p0), (2, vA p2), (4, vI p4), (5, vI (s4.2.2))]) (st' := [vI ((T5.ai (adr p0) (ni s4.1)) &&& 255), vI (s4.2.1), vA p2]) [(.sipush 255, 3), (.iand, 1)] ⟨dJ3_inflate_28, dJ3_inflate_31, rfl⟩ rfl ?_
        obtain ⟨mc10, ms11, hle12, hw⟩ := hw
        refine x_cS C 35 (mc2 := mc10) (ms2 := ms11) [vA p2, vI (s4.2.1), vI ((T5.ai (adr p0) (ni s4.1)) &&& 255)] [] dJ3_inflate_32 rfl (ok_J3_putChar hG hw) hle12 q430 q431 q164 q432 hd_J3_putChar ⟨rfl, rfl, rfl⟩ (fun v9 h8 h9 hq9 eh9 => ?_)
        obtain ⟨rfl, hw⟩ := hq9
        replace hw := hw h9 eh9
        refine x_b C (pc' := 38) (L' := [(5, vI (s4.2.2 + 1)), (1, vI (s4.1 + 1)), (3, vI (s4.2.1 + 1)), (0, vA p0), (2, vA p2), (4, vI p4)]) (st' := []) [(.iinc 5 1, 3)] ⟨dJ3_inflate_35, rfl⟩ rfl ?_
        refine x_goto C 10 dJ3_inflate_38 rfl ?_
        refine x_sub C (L' := [(0, vA p0), (1, vI (s4.1 + 1)), (2, vA p2), (3, vI (s4.2.1 + 1)), (4, vI p4), (5, vI (s4.2.2 + 1))]) [3, 1, 4, 2, 5, 0] rfl ?_
        obtain ⟨m9, hm9, hw⟩ := hw
        exact ih4 m9 hm9 ((s4.1 + 1), (s4.2.1 + 1), (s4.2.2 + 1)) h9 hw
  exact key4 n4 (p1, p3, 0) h3 hI4
def wp_J7_inflate (p0 : Option Nat) (p1 : Int32) (p2 : Option Nat) (p3 : Int32) (p4 : Int32) (h : AH) (Q : AH → Prop) : Prop :=
  cl h fun mc4 ms5 => wp_J3_inflate p0 p1 p2 p3 p4 (h.srm mc4 ms5) fun h2 => ∀ h3, h3 = h2.srm (h.rc - mc4) (h.rs - ms5) →
  Q h3
theorem hd_J7_inflate : yJ7_inflate.cls ≠ "java/lang/invoke/MethodHandle" ∧ yJ7_inflate.cls ≠ "java/lang/invoke/VarHandle" ∧ (parseMethodDescriptor yJ7_inflate.desc).map (fun d => d.parameters.length) = some 5 := by decide +kernel
theorem ok_J7_inflate {l : Launch} {D : va_G} {s0 : S0} (hG : G0 D s0) {p0 : Option Nat} {p1 : Int32} {p2 : Option Nat} {p3 : Int32} {p4 : Int32} {h : AH} {Q : AH → Prop} (hw : wp_J7_inflate p0 p1 p2 p3 p4 h Q) : OKm l D s0 yJ7_inflate cJ7_inflate 5 none 5 152 [vA p0, vI p1, vA p2, vI p3, vI p4] h (QV Q) := by
  refine x_metF hG (by decide +kernel) (own := RJ7) (mn := "inflate") rfl rfl (L0 := [(0, vA p0), (1, vI p1), (2, vA p2), (3, vI p3), (4, vI p4)]) rfl rfl ?_
  intro K C
  unfold wp_J7_inflate at hw
  refine x_b C (pc' := 6) (L' := [(0, vA p0), (1, vI p1), (2, vA p2), (3, vI p3), (4, vI p4)]) (st' := [vI p4, vI p3, vA p2, vI p1, vA p0]) [(.aload_n 0, 1), (.iload_n 1, 1), (.aload_n 2, 1), (.iload_n 3, 1), (.iload 4, 2)] ⟨dJ7_inflate_0, dJ7_inflate_1, dJ7_inflate_2, dJ7_inflate_3, dJ7_inflate_4, rfl⟩ rfl ?_
  obtain ⟨mc4, ms5, hle6, hw⟩ := hw
  refine x_cS C 9 (mc2 := mc4) (ms2 := ms5) [vA p0, vI p1, vA p2, vI p3, vI p4] [] dJ7_inflate_6 rfl (ok_J3_inflate hG hw) hle6 q413 q414 q164 q415 hd_J3_inflate ⟨rfl, rfl, rfl⟩ (fun v9 h2 h3 hq9 eh3 => ?_)
  obtain ⟨rfl, hw⟩ := hq9
  replace hw := hw h3 eh3
  exact x_vret C dJ7_inflate_9 ⟨rfl, hw⟩
theorem hx_java_lang_AbstractStringBuilder_isLatin1 : ("java/lang/AbstractStringBuilder" : String) ≠ "java/lang/invoke/MethodHandle" ∧ ("java/lang/AbstractStringBuilder" : String) ≠ "java/lang/invoke/VarHandle" ∧ (parseMethodDescriptor "()Z").map (fun d => d.parameters.length) = some 0 := by decide +kernel
def wp_J0_inflate (o : Nat) (h : AH) (Q : AH → Prop) : Prop :=
  nn h (some o) 21 ∧
  wp_J0_isLatin1 o (h.srm 0 0) fun r2 h3 => ∀ h4, h4 = h3.srm h.rc h.rs →
  ((r2 = 0 →
  Q h4) ∧ (¬ r2 = 0 →
  nn h4 (some o) 21 ∧
  nn h4 (h4.fr 2100 o) 41 ∧
  cl h4 fun mc11 ms12 => wp_J3_newBytesFor (nI (h4.kd (adr (h4.fr 2100 o))).2) (h4.srm mc11 ms12) fun r8 h9 => ∀ h10, h10 = h9.srm (h4.rc - mc11) (h4.rs - ms12) →
  nn h10 (some o) 21 ∧
  cl h10 fun mc18 ms19 => wp_J7_inflate (h10.fr 2100 o) 0 r8 0 (h10.fi 2103 o) (h10.srm mc18 ms19) fun h16 => ∀ h17, h17 = h16.srm (h10.rc - mc18) (h10.rs - ms19) →
  nn h17 (some o) 21 ∧
  ∀ h22, h22 = h17.sfr 2100 o r8 →
  ∀ h23, h23 = h22.sfi 2101 o (1) →
  Q h23))
theorem hd_J0_inflate : yJ0_inflate.cls = RJ0 ∧ yJ0_inflate.cls ≠ "java/lang/invoke/MethodHandle" ∧ yJ0_inflate.cls ≠ "java/lang/invoke/VarHandle" ∧ (parseMethodDescriptor yJ0_inflate.desc).map (fun d => d.parameters.length) = some 0 := by decide +kernel
theorem ok_J0_inflate {l : Launch} {D : va_G} {s0 : S0} (hG : G0 D s0) {o : Nat} {h : AH} {Q : AH → Prop} (hw : wp_J0_inflate o h Q) : OKm l D s0 yJ0_inflate cJ0_inflate 2 none 6 176 [vA (some o)] h (QV Q) := by
  refine x_metF hG (by decide +kernel) (own := RJ0) (mn := "inflate") rfl rfl (L0 := [(0, vA (some o))]) rfl rfl ?_
  intro K C
  unfold wp_J0_inflate at hw
  refine x_b C (pc' := 1) (L' := [(0, vA (some o))]) (st' := [vA (some o)]) [(.aload_n 0, 1)] ⟨dJ0_inflate_0, rfl⟩ rfl ?_
  have hn1 := hw.1
  replace hw := hw.2
  refine x_cU C 21 4 (x := ⟨"java/lang/AbstractStringBuilder", "isLatin1", "()Z"⟩) (mc2 := 0) (ms2 := 0) [] [] dJ0_inflate_1 rfl (ok_J0_isLatin1 hG hw) ⟨Nat.zero_le _, Nat.zero_le _⟩ q398 q400 q401 q399 q161 q402 (Or.inl rfl) rfl hx_java_lang_AbstractStringBuilder_isLatin1 ⟨rfl, rfl, rfl⟩ hn1 (fun v9 h3 h4 hq9 eh4 => ?_)
  obtain ⟨r2, rfl, hw⟩ := hq9
  replace hw := hw h4 eh4
  refine x_if_ne C 8 7 dJ0_inflate_4 rfl rfl (fun hc5 => ?_) (fun hc5 => ?_)
  · replace hw := hw.2 hc5
    refine x_b C (pc' := 9) (L' := [(0, vA (some o))]) (st' := [vA (some o)]) [(.aload_n 0, 1)] ⟨dJ0_inflate_8, rfl⟩ rfl ?_
    have hn6 := hw.1
    replace hw := hw.2
    refine x_get C 21 0 (pc' := 12) (v := vA (h4.fr 2100 o)) dJ0_inflate_9 rfl rfl rfl q343 rfl hn6 ?_
    have hn7 := hw.1
    replace hw := hw.2
    refine x_alen C 41 13 dJ0_inflate_12 rfl rfl hn7 ?_
    obtain ⟨mc11, ms12, hle13, hw⟩ := hw
    refine x_cS C 16 (mc2 := mc11) (ms2 := ms12) [vI (nI (h4.kd (adr (h4.fr 2100 o))).2)] [] dJ0_inflate_13 rfl (ok_J3_newBytesFor hG hw) hle13 q336 q337 q164 q338 hd_J3_newBytesFor ⟨rfl, rfl, rfl⟩ (fun v9 h9 h10 hq9 eh10 => ?_)
    obtain ⟨r8, rfl, hw⟩ := hq9
    replace hw := hw h10 eh10
    refine x_b C (pc' := 18) (L' := [(1, vA r8), (0, vA (some o))]) (st' := [vA (some o)]) [(.astore_n 1, 1), (.aload_n 0, 1)] ⟨dJ0_inflate_16, dJ0_inflate_17, rfl⟩ rfl ?_
    have hn14 := hw.1
    replace hw := hw.2
    refine x_get C 21 0 (pc' := 21) (v := vA (h10.fr 2100 o)) dJ0_inflate_18 rfl rfl rfl q343 rfl hn14 ?_
    refine x_b C (pc' := 25) (L' := [(1, vA r8), (0, vA (some o))]) (st' := [vA (some o), vI 0, vA r8, vI 0, vA (h10.fr 2100 o)]) [(.iconst 0, 1), (.aload_n 1, 1), (.iconst 0, 1), (.aload_n 0, 1)] ⟨dJ0_inflate_21, dJ0_inflate_22, dJ0_inflate_23, dJ0_inflate_24, rfl⟩ rfl ?_
    refine x_get C 21 3 (pc' := 28) (v := vI (h10.fi 2103 o)) dJ0_inflate_25 rfl rfl rfl q346 rfl hn14 ?_
    obtain ⟨mc18, ms19, hle20, hw⟩ := hw
    refine x_cS C 31 (mc2 := mc18) (ms2 := ms19) [vA (h10.fr 2100 o), vI 0, vA r8, vI 0, vI (h10.fi 2103 o)] [] dJ0_inflate_28 rfl (ok_J7_inflate hG hw) hle20 q410 q411 q169 q412 hd_J7_inflate ⟨rfl, rfl, rfl⟩ (fun v9 h16 h17 hq9 eh17 => ?_)
    obtain ⟨rfl, hw⟩ := hq9
    replace hw := hw h17 eh17
    refine x_b C (pc' := 33) (L' := [(1, vA r8), (0, vA (some o))]) (st' := [vA r8, vA (some o)]) [(.aload_n 0, 1), (.aload_n 1, 1)] ⟨dJ0_inflate_31, dJ0_inflate_32, rfl⟩ rfl ?_
    have hn21 := hw.1
    replace hw := hw.2
    refine x_pA C 21 0 36 dJ0_inflate_33 rfl rfl rfl rfl q343 (fun _ _ _ => rfl) (rf_n2 _) (rf_f2 _) hn21 (Or.inl rfl) (fun h22 eh22 => ?_)
    replace hw := hw h22 eh22
    refine x_b C (pc' := 38) (L' := [(1, vA r8), (0, vA (some o))]) (st' := [vI 1, vA (some o)]) [(.aload_n 0, 1), (.iconst 1, 1)] ⟨dJ0_inflate_36, dJ0_inflate_37, rfl⟩ rfl ?_
    refine x_pI C 21 1 41 dJ0_inflate_38 rfl rfl rfl rfl q344 (fun _ _ _ => rfl) rfl rfl (nn_eq eh22 hn21 rfl) (Or.inl rfl) (fun h23 eh23 => ?_)
    replace hw := hw h23 eh23
    exact x_vret C dJ0_inflate_41 ⟨rfl, hw⟩
  · replace hw := hw.1 hc5
    exact x_vret C dJ0_inflate_7 ⟨rfl, hw⟩
def wp_J8_checkIndex (p0 : Int32) (p1 : Int32) (p2 : Option Nat) (h : AH) (Q : Int32 → AH → Prop) : Prop :=
  (((¬ (p0 < 0) ∧ (p0 < p1)) →
  Q p0 h) ∧ (¬ (¬ (p0 < 0) ∧ (p0 < p1)) →
  False))
theorem hd_J8_checkIndex : yJ8_checkIndex.cls ≠ "java/lang/invoke/MethodHandle" ∧ yJ8_checkIndex.cls ≠ "java/lang/invoke/VarHandle" ∧ (parseMethodDescriptor yJ8_checkIndex.desc).map (fun d => d.parameters.length) = some 3 := by decide +kernel
theorem ok_J8_checkIndex {l : Launch} {D : va_G} {s0 : S0} (hG : G0 D s0) {p0 : Int32} {p1 : Int32} {p2 : Option Nat} {h : AH} {Q : Int32 → AH → Prop} (hw : wp_J8_checkIndex p0 p1 p2 h Q) : OKm l D s0 yJ8_checkIndex cJ8_checkIndex 3 (some .int) 1 60 [vI p0, vI p1, vA p2] h (QI Q) := by
  refine x_metF hG (by decide +kernel) (own := RJ8) (mn := "checkIndex") rfl rfl (L0 := [(0, vI p0), (1, vI p1), (2, vA p2)]) rfl rfl ?_
  intro K C
  unfold wp_J8_checkIndex at hw
  refine x_b C (pc' := 1) (L' := [(0, vI p0), (1, vI p1), (2, vA p2)]) (st' := [vI p0]) [(.iload_n 0, 1)] ⟨dJ8_checkIndex_0, rfl⟩ rfl ?_
  have kx1 : (¬ (p0 < 0) ∧ (p0 < p1)) → K 17 [(0, vI p0), (1, vI p1), (2, vA p2)] [vI p0] h := by
    intro hcc
    replace hw := hw.1 hcc
    exact x_iret C dJ8_checkIndex_17 ⟨_, rfl, hw⟩
  have ky2 : ¬ (¬ (p0 < 0) ∧ (p0 < p1)) → K 9 [(0, vI p0), (1, vI p1), (2, vA p2)] [] h := by
    intro hcc
    replace hw := hw.2 hcc
    refine x_b C (pc' := 12) (L' := [(0, vI p0), (1, vI p1), (2, vA p2)]) (st' := [vI p1, vI p0, vA p2]) [(.aload_n 2, 1), (.iload_n 0, 1), (.iload_n 1, 1)] ⟨dJ8_checkIndex_9, dJ8_checkIndex_10, dJ8_checkIndex_11, rfl⟩ rfl ?_
    exact hw.elim
  refine x_if_lt C 9 4 dJ8_checkIndex_1 rfl rfl (fun hc3 => ?_) (fun hc3 => ?_)
  · exact ky2 (fun h0 => (fun h0 => h0 hc3) h0.1)
  · refine x_b C (pc' := 6) (L' := [(0, vI p0), (1, vI p1), (2, vA p2)]) (st' := [vI p1, vI p0]) [(.iload_n 0, 1), (.iload_n 1, 1)] ⟨dJ8_checkIndex_4, dJ8_checkIndex_5, rfl⟩ rfl ?_
    refine x_icmp_lt C 16 9 dJ8_checkIndex_6 rfl rfl (fun hc4 => ?_) (fun hc4 => ?_)
    · refine x_b C (pc' := 17) (L' := [(0, vI p0), (1, vI p1), (2, vA p2)]) (st' := [vI p0]) [(.iload_n 0, 1)] ⟨dJ8_checkIndex_16, rfl⟩ rfl ?_
      exact kx1 ⟨hc3, hc4⟩
    · exact ky2 (fun h0 => hc4 h0.2)
def wp_J2_checkIndex (p0 : Int32) (p1 : Int32) (h : AH) (Q : AH → Prop) : Prop :=
  wp_J8_checkIndex p0 p1 (sref (h.cs 506)) (h.srm 0 0) fun r1 h2 => ∀ h3, h3 = h2.srm h.rc h.rs →
  Q h3
theorem hd_J2_checkIndex : yJ2_checkIndex.cls ≠ "java/lang/invoke/MethodHandle" ∧ yJ2_checkIndex.cls ≠ "java/lang/invoke/VarHandle" ∧ (parseMethodDescriptor yJ2_checkIndex.desc).map (fun d => d.parameters.length) = some 2 := by decide +kernel
theorem ok_J2_checkIndex {l : Launch} {D : va_G} {s0 : S0} (hG : G0 D s0) {p0 : Int32} {p1 : Int32} {h : AH} {Q : AH → Prop} (hw : wp_J2_checkIndex p0 p1 h Q) : OKm l D s0 yJ2_checkIndex cJ2_checkIndex 2 none 2 82 [vI p0, vI p1] h (QV Q) := by
  refine x_metF hG (by decide +kernel) (own := RJ2) (mn := "checkIndex") rfl rfl (L0 := [(0, vI p0), (1, vI p1)]) rfl rfl ?_
  intro K C
  unfold wp_J2_checkIndex at hw
  refine x_b C (pc' := 2) (L' := [(0, vI p0), (1, vI p1)]) (st' := [vI p1, vI p0]) [(.iload_n 0, 1), (.iload_n 1, 1)] ⟨dJ2_checkIndex_0, dJ2_checkIndex_1, rfl⟩ rfl ?_
  refine x_getsR C 506 5 dJ2_checkIndex_2 rfl z_sf q425 ?_
  refine x_cS C 8 (mc2 := 0) (ms2 := 0) [vI p0, vI p1, vA (sref (h.cs 506))] [] dJ2_checkIndex_5 rfl (ok_J8_checkIndex hG hw) ⟨Nat.zero_le _, Nat.zero_le _⟩ q448 q449 q170 q450 hd_J8_checkIndex ⟨rfl, rfl, rfl⟩ (fun v9 h2 h3 hq9 eh3 => ?_)
  obtain ⟨r1, rfl, hw⟩ := hq9
  replace hw := hw h3 eh3
  refine x_b C (pc' := 9) (L' := [(0, vI p0), (1, vI p1)]) (st' := []) [(.pop, 1)] ⟨dJ2_checkIndex_8, rfl⟩ rfl ?_
  exact x_vret C dJ2_checkIndex_9 ⟨rfl, hw⟩
def wp_J3_checkIndex (p0 : Int32) (p1 : Option Nat) (h : AH) (Q : AH → Prop) : Prop :=
  wp_J3_length p1 (h.srm 0 0) fun r1 h2 => ∀ h3, h3 = h2.srm h.rc h.rs →
  wp_J2_checkIndex p0 r1 (h3.srm 0 0) fun h5 => ∀ h6, h6 = h5.srm h3.rc h3.rs →
  Q h6
theorem hd_J3_checkIndex : yJ3_checkIndex.cls ≠ "java/lang/invoke/MethodHandle" ∧ yJ3_checkIndex.cls ≠ "java/lang/invoke/VarHandle" ∧ (parseMethodDescriptor yJ3_checkIndex.desc).map (fun d => d.parameters.length) = some 2 := by decide +kernel
theorem ok_J3_checkIndex {l : Launch} {D : va_G} {s0 : S0} (hG : G0 D s0) {p0 : Int32} {p1 : Option Nat} {h : AH} {Q : AH → Prop} (hw : wp_J3_checkIndex p0 p1 h Q) : OKm l D s0 yJ3_checkIndex cJ3_checkIndex 2 none 3 103 [vI p0, vA p1] h (QV Q) := by
  refine x_metF hG (by decide +kernel) (own := RJ3) (mn := "checkIndex") rfl rfl (L0 := [(0, vI p0), (1, vA p1)]) rfl rfl ?_
  intro K C
  unfold wp_J3_checkIndex at hw
  refine x_b C (pc' := 2) (L' := [(0, vI p0), (1, vA p1)]) (st' := [vA p1, vI p0]) [(.iload_n 0, 1), (.aload_n 1, 1)] ⟨dJ3_checkIndex_0, dJ3_checkIndex_1, rfl⟩ rfl ?_
  refine x_cS C 5 (mc2 := 0) (ms2 := 0) [vA p1] [vI p0] dJ3_checkIndex_2 rfl (ok_J3_length hG hw) ⟨Nat.zero_le _, Nat.zero_le _⟩ q419 q420 q164 q421 hd_J3_length ⟨rfl, rfl, rfl⟩ (fun v9 h2 h3 hq9 eh3 => ?_)
  obtain ⟨r1, rfl, hw⟩ := hq9
  replace hw := hw h3 eh3
  refine x_cS C 8 (mc2 := 0) (ms2 := 0) [vI p0, vI r1] [] dJ3_checkIndex_5 rfl (ok_J2_checkIndex hG hw) ⟨Nat.zero_le _, Nat.zero_le _⟩ q445 q446 q163 q447 hd_J2_checkIndex ⟨rfl, rfl, rfl⟩ (fun v9 h5 h6 hq9 eh6 => ?_)
  obtain ⟨rfl, hw⟩ := hq9
  replace hw := hw h6 eh6
  exact x_vret C dJ3_checkIndex_8 ⟨rfl, hw⟩
def wp_J3_putCharSB (p0 : Option Nat) (p1 : Int32) (p2 : Int32) (h : AH) (Q : AH → Prop) : Prop :=
  wp_J3_checkIndex p1 p0 (h.srm 0 0) fun h2 => ∀ h3, h3 = h2.srm h.rc h.rs →
  cl h3 fun mc7 ms8 => wp_J3_putChar p0 p1 p2 (h3.srm mc7 ms8) fun h5 => ∀ h6, h6 = h5.srm (h3.rc - mc7) (h3.rs - ms8) →
  Q h6
theorem hd_J3_putCharSB : yJ3_putCharSB.cls ≠ "java/lang/invoke/MethodHandle" ∧ yJ3_putCharSB.cls ≠ "java/lang/invoke/VarHandle" ∧ (parseMethodDescriptor yJ3_putCharSB.desc).map (fun d => d.parameters.length) = some 3 := by decide +kernel
theorem ok_J3_putCharSB {l : Launch} {D : va_G} {s0 : S0} (hG : G0 D s0) {p0 : Option Nat} {p1 : Int32} {p2 : Int32} {h : AH} {Q : AH → Prop} (hw : wp_J3_putCharSB p0 p1 p2 h Q) : OKm l D s0 yJ3_putCharSB cJ3_putCharSB 3 none 4 124 [vA p0, vI p1, vI p2] h (QV Q) := by
  refine x_metF hG (by decide +kernel) (own := RJ3) (mn := "putCharSB") rfl rfl (L0 := [(0, vA p0), (1, vI p1), (2, vI p2)]) rfl rfl ?_
  intro K C
  unfold wp_J3_putCharSB at hw
  refine x_b C (pc' := 2) (L' := [(0, vA p0), (1, vI p1), (2, vI p2)]) (st' := [vA p0, vI p1]) [(.iload_n 1, 1), (.aload_n 0, 1)] ⟨dJ3_putCharSB_0, dJ3_putCharSB_1, rfl⟩ rfl ?_
  refine x_cS C 5 (mc2 := 0) (ms2 := 0) [vI p1, vA p0] [] dJ3_putCharSB_2 rfl (ok_J3_checkIndex hG hw) ⟨Nat.zero_le _, Nat.zero_le _⟩ q442 q443 q164 q444 hd_J3_checkIndex ⟨rfl, rfl, rfl⟩ (fun v9 h2 h3 hq9 eh3 => ?_)
  obtain ⟨rfl, hw⟩ := hq9
  replace hw := hw h3 eh3
  refine x_b C (pc' := 8) (L' := [(0, vA p0), (1, vI p1), (2, vI p2)]) (st' := [vI p2, vI p1, vA p0]) [(.aload_n 0, 1), (.iload_n 1, 1), (.iload_n 2, 1)] ⟨dJ3_putCharSB_5, dJ3_putCharSB_6, dJ3_putCharSB_7, rfl⟩ rfl ?_
  obtain ⟨mc7, ms8, hle9, hw⟩ := hw
  refine x_cS C 11 (mc2 := mc7) (ms2 := ms8) [vA p0, vI p1, vI p2] [] dJ3_putCharSB_8 rfl (ok_J3_putChar hG hw) hle9 q430 q431 q164 q432 hd_J3_putChar ⟨rfl, rfl, rfl⟩ (fun v9 h5 h6 hq9 eh6 => ?_)
  obtain ⟨rfl, hw⟩ := hq9
  replace hw := hw h6 eh6
  exact x_vret C dJ3_putCharSB_11 ⟨rfl, hw⟩
def wp_J7_canEncode (p0 : Int32) (h : AH) (Q : Int32 → AH → Prop) : Prop :=
  ∀ m1 : Int32, m1 = (if 255 < p0 then 0 else 1) →
  bz m1 ∧ Q m1 h
theorem hd_J7_canEncode : yJ7_canEncode.cls ≠ "java/lang/invoke/MethodHandle" ∧ yJ7_canEncode.cls ≠ "java/lang/invoke/VarHandle" ∧ (parseMethodDescriptor yJ7_canEncode.desc).map (fun d => d.parameters.length) = some 1 := by decide +kernel
theorem ok_J7_canEncode {l : Launch} {D : va_G} {s0 : S0} (hG : G0 D s0) {p0 : Int32} {h : AH} {Q : Int32 → AH → Prop} (hw : wp_J7_canEncode p0 h Q) : OKm l D s0 yJ7_canEncode cJ7_canEncode 1 (some .boolean) 0 0 [vI p0] h (QI Q) := by
  refine x_metF hG (by decide +kernel) (own := RJ7) (mn := "canEncode") rfl rfl (L0 := [(0, vI p0)]) rfl rfl ?_
  intro K C
  unfold wp_J7_canEncode at hw
  refine x_b C (pc' := 4) (L' := [(0, vI p0)]) (st' := [vI 255, vI p0]) [(.iload_n 0, 1), (.sipush 255, 3)] ⟨dJ7_canEncode_0, dJ7_canEncode_1, rfl⟩ rfl ?_
  have kj2 : ∀ (m1 : Int32), m1 = (if 255 < p0 then 0 else 1) → K 12 [] [vI m1] h := by
    intro m1 em1
    replace hw := hw m1 em1
    exact x_zret C dJ7_canEncode_12 (bz_n hw.1) ⟨_, rfl, hw.2⟩
  refine x_icmp_gt C 11 7 dJ7_canEncode_4 rfl rfl (fun hc3 => ?_) (fun hc3 => ?_)
  · refine x_b C (pc' := 12) (L' := [(0, vI p0)]) (st' := [vI 0]) [(.iconst 0, 1)] ⟨dJ7_canEncode_11, rfl⟩ rfl ?_
    refine x_sub C (L' := []) [] rfl ?_
    exact kj2 _ ((if_pos hc3).symm)
  · refine x_b C (pc' := 8) (L' := [(0, vI p0)]) (st' := [vI 1]) [(.iconst 1, 1)] ⟨dJ7_canEncode_7, rfl⟩ rfl ?_
    refine x_goto C 12 dJ7_canEncode_8 rfl ?_
    refine x_sub C (L' := []) [] rfl ?_
    exact kj2 _ ((if_neg hc3).symm)
theorem hx_java_lang_AbstractStringBuilder_ensureCapacityInternal : ("java/lang/AbstractStringBuilder" : String) ≠ "java/lang/invoke/MethodHandle" ∧ ("java/lang/AbstractStringBuilder" : String) ≠ "java/lang/invoke/VarHandle" ∧ (parseMethodDescriptor "(I)V").map (fun d => d.parameters.length) = some 1 := by decide +kernel
theorem hx_java_lang_AbstractStringBuilder_inflate : ("java/lang/AbstractStringBuilder" : String) ≠ "java/lang/invoke/MethodHandle" ∧ ("java/lang/AbstractStringBuilder" : String) ≠ "java/lang/invoke/VarHandle" ∧ (parseMethodDescriptor "()V").map (fun d => d.parameters.length) = some 0 := by decide +kernel
def wp_J0_append (o : Nat) (p0 : Int32) (h : AH) (Q : Option Nat → AH → Prop) : Prop :=
  nn h (some o) 21 ∧
  cl h fun mc5 ms6 => wp_J0_ensureCapacityInternal o ((h.fi 2103 o) + 1) (h.srm mc5 ms6) fun h3 => ∀ h4, h4 = h3.srm (h.rc - mc5) (h.rs - ms6) →
  nn h4 (some o) 21 ∧
  wp_J0_isLatin1 o (h4.srm 0 0) fun r9 h10 => ∀ h11, h11 = h10.srm h4.rc h4.rs →
  ((r9 = 0 →
  nn h11 (some o) 21 ∧
  wp_J0_isLatin1 o (h11.srm 0 0) fun r14 h15 => ∀ h16, h16 = h15.srm h11.rc h11.rs →
  xjn (α := Unit) (fun J18 =>
  ((r14 = 0 →
  J18 () h16) ∧ (¬ r14 = 0 →
  nn h16 (some o) 21 ∧
  cl h16 fun mc24 ms25 => wp_J0_inflate o (h16.srm mc24 ms25) fun h22 => ∀ h23, h23 = h22.srm (h16.rc - mc24) (h16.rs - ms25) →
  J18 () h23))) (fun x27 T28 =>
  nn T28 (some o) 21 ∧
  ∀ h30, h30 = T28.sfi 2103 o ((T28.fi 2103 o) + 1) →
  cl h30 fun mc34 ms35 => wp_J3_putCharSB (T28.fr 2100 o) (T28.fi 2103 o) p0 (h30.srm mc34 ms35) fun h32 => ∀ h33, h33 = h32.srm (h30.rc - mc34) (h30.rs - ms35) →
  Q (some o) h33)) ∧ (¬ r9 = 0 →
  wp_J7_canEncode p0 (h11.srm 0 0) fun r37 h38 => ∀ h39, h39 = h38.srm h11.rc h11.rs →
  ((r37 = 0 →
  nn h39 (some o) 21 ∧
  wp_J0_isLatin1 o (h39.srm 0 0) fun r42 h43 => ∀ h44, h44 = h43.srm h39.rc h39.rs →
  xjn (α := Unit) (fun J46 =>
  ((r42 = 0 →
  J46 () h44) ∧ (¬ r42 = 0 →
  nn h44 (some o) 21 ∧
  cl h44 fun mc52 ms53 => wp_J0_inflate o (h44.srm mc52 ms53) fun h50 => ∀ h51, h51 = h50.srm (h44.rc - mc52) (h44.rs - ms53) →
  J46 () h51))) (fun x55 T56 =>
  nn T56 (some o) 21 ∧
  ∀ h58, h58 = T56.sfi 2103 o ((T56.fi 2103 o) + 1) →
  cl h58 fun mc62 ms63 => wp_J3_putCharSB (T56.fr 2100 o) (T56.fi 2103 o) p0 (h58.srm mc62 ms63) fun h60 => ∀ h61, h61 = h60.srm (h58.rc - mc62) (h58.rs - ms63) →
  Q (some o) h61)) ∧ (¬ r37 = 0 →
  nn h39 (some o) 21 ∧
  ∀ h66, h66 = h39.sfi 2103 o ((h39.fi 2103 o) + 1) →
  ix h66 (h39.fr 2100 o) 41 (h39.fi 2103 o) ∧
  h66.lo ≤ (adr (h39.fr 2100 o)) ∧
  ∀ h67, h67 = h66.sai (adr (h39.fr 2100 o)) (ni (h39.fi 2103 o)) (vp_nar .byte (Int8.toInt32 (Int32.toInt8 p0))) →
  Q (some o) h67))))
theorem hd_J0_append : yJ0_append.cls = RJ0 ∧ yJ0_append.cls ≠ "java/lang/invoke/MethodHandle" ∧ yJ0_append.cls ≠ "java/lang/invoke/VarHandle" ∧ (parseMethodDescriptor yJ0_append.desc).map (fun d => d.parameters.length) = some 1 := by decide +kernel
theorem hs_J0_append : yJ0_append.name ≠ "<init>" ∧ (parseMethodDescriptor yJ0_append.desc).map (fun d => d.parameters.length) = some 1 := by decide +kernel
theorem ok_J0_append {l : Launch} {D : va_G} {s0 : S0} (hG : G0 D s0) {o : Nat} {p0 : Int32} {h : AH} {Q : Option Nat → AH → Prop} (hw : wp_J0_append o p0 h Q) : OKm l D s0 yJ0_append cJ0_append 2 (some (.object "java/lang/AbstractStringBuilder")) 7 197 [vA (some o), vI p0] h (QA Q) := by
  refine x_metF hG (by decide +kernel) (own := RJ0) (mn := "append") rfl rfl (L0 := [(0, vA (some o)), (1, vI p0)]) rfl rfl ?_
  intro K C
  unfold wp_J0_append at hw
  refine x_b C (pc' := 2) (L' := [(0, vA (some o)), (1, vI p0)]) (st' := [vA (some o), vA (some o)]) [(.aload_n 0, 1), (.aload_n 0, 1)] ⟨dJ0_append_0, dJ0_append_1, rfl⟩ rfl ?_
  have hn1 := hw.1
  replace hw := hw.2
  refine x_get C 21 3 (pc' := 5) (v := vI (h.fi 2103 o)) dJ0_append_2 rfl rfl rfl q346 rfl hn1 ?_
  refine x_b C (pc' := 7) (L' := [(0, vA (some o)), (1, vI p0)]) (st' := [vI ((h.fi 2103 o) + 1), vA (some o)]) [(.iconst 1, 1), (.iadd, 1)] ⟨dJ0_append_5, dJ0_append_6, rfl⟩ rfl ?_
  obtain ⟨mc5, ms6, hle7, hw⟩ := hw
  refine x_cP C 21 10 (mc2 := mc5) (ms2 := ms6) [vI ((h.fi 2103 o) + 1)] [] dJ0_append_7 rfl (ok_J0_ensureCapacityInternal hG hw) hle7 q363 q2922 q401 q364 q365 q161 q366 rfl rfl hx_java_lang_AbstractStringBuilder_ensureCapacityInternal ⟨rfl, rfl, rfl⟩ hn1 (fun v9 h3 h4 hq9 eh4 => ?_)
  obtain ⟨rfl, hw⟩ := hq9
  replace hw := hw h4 eh4
  refine x_b C (pc' := 11) (L' := [(0, vA (some o)), (1, vI p0)]) (st' := [vA (some o)]) [(.aload_n 0, 1)] ⟨dJ0_append_10, rfl⟩ rfl ?_
  have hn8 := hw.1
  replace hw := hw.2
  refine x_cU C 21 14 (x := ⟨"java/lang/AbstractStringBuilder", "isLatin1", "()Z"⟩) (mc2 := 0) (ms2 := 0) [] [] dJ0_append_11 rfl (ok_J0_isLatin1 hG hw) ⟨Nat.zero_le _, Nat.zero_le _⟩ q398 q400 q401 q399 q161 q402 (Or.inl rfl) rfl hx_java_lang_AbstractStringBuilder_isLatin1 ⟨rfl, rfl, rfl⟩ hn8 (fun v9 h10 h11 hq9 eh11 => ?_)
  obtain ⟨r9, rfl, hw⟩ := hq9
  replace hw := hw h11 eh11
  refine x_if_eq C 45 17 dJ0_append_14 rfl rfl (fun hc12 => ?_) (fun hc12 => ?_)
  · replace hw := hw.1 hc12
    refine x_b C (pc' := 46) (L' := [(0, vA (some o)), (1, vI p0)]) (st' := [vA (some o)]) [(.aload_n 0, 1)] ⟨dJ0_append_45, rfl⟩ rfl ?_
    have hn13 := hw.1
    replace hw := hw.2
    refine x_cU C 21 49 (x := ⟨"java/lang/AbstractStringBuilder", "isLatin1", "()Z"⟩) (mc2 := 0) (ms2 := 0) [] [] dJ0_append_46 rfl (ok_J0_isLatin1 hG hw) ⟨Nat.zero_le _, Nat.zero_le _⟩ q398 q400 q401 q399 q161 q402 (Or.inl rfl) rfl hx_java_lang_AbstractStringBuilder_isLatin1 ⟨rfl, rfl, rfl⟩ hn13 (fun v9 h15 h16 hq9 eh16 => ?_)
    obtain ⟨r14, rfl, hw⟩ := hq9
    replace hw := hw h16 eh16
    obtain ⟨J18, hw, hJ18⟩ := xjn.out hw
    have kj17 : ∀ (x27 : Unit) (T28 : AH), J18 x27 T28 → K 56 [(0, vA (some o)), (1, vI p0)] [] T28 := by
      intro x27 T28 hj
      replace hw := hJ18 x27 T28 hj
      refine x_b C (pc' := 57) (L' := [(0, vA (some o)), (1, vI p0)]) (st' := [vA (some o)]) [(.aload_n 0, 1)] ⟨dJ0_append_56, rfl⟩ rfl ?_
      have hn29 := hw.1
      replace hw := hw.2
      refine x_get C 21 0 (pc' := 60) (v := vA (T28.fr 2100 o)) dJ0_append_57 rfl rfl rfl q343 rfl hn29 ?_
      refine x_b C (pc' := 62) (L' := [(0, vA (some o)), (1, vI p0)]) (st' := [vA (some o), vA (some o), vA (T28.fr 2100 o)]) [(.aload_n 0, 1), (.dup, 1)] ⟨dJ0_append_60, dJ0_append_61, rfl⟩ rfl ?_
      refine x_get C 21 3 (pc' := 65) (v := vI (T28.fi 2103 o)) dJ0_append_62 rfl rfl rfl q346 rfl hn29 ?_
      refine x_b C (pc' := 68) (L' := [(0, vA (some o)), (1, vI p0)]) (st' := [vI ((T28.fi 2103 o) + 1), vA (some o), vI (T28.fi 2103 o), vA (T28.fr 2100 o)]) [(.dup_x1, 1), (.iconst 1, 1), (.iadd, 1)] ⟨dJ0_append_65, dJ0_append_66, dJ0_append_67, rfl⟩ rfl ?_
      refine x_pI C 21 3 71 dJ0_append_68 rfl rfl rfl rfl q346 (fun _ _ _ => rfl) rfl rfl hn29 (Or.inl rfl) (fun h30 eh30 => ?_)
      replace hw := hw h30 eh30
      refine x_b C (pc' := 72) (L' := [(0, vA (some o)), (1, vI p0)]) (st' := [vI p0, vI (T28.fi 2103 o), vA (T28.fr 2100 o)]) [(.iload_n 1, 1)] ⟨dJ0_append_71, rfl⟩ rfl ?_
      obtain ⟨mc34, ms35, hle36, hw⟩ := hw
      refine x_cS C 75 (mc2 := mc34) (ms2 := ms35) [vA (T28.fr 2100 o), vI (T28.fi 2103 o), vI p0] [] dJ0_append_72 rfl (ok_J3_putCharSB hG hw) hle36 q439 q440 q164 q441 hd_J3_putCharSB ⟨rfl, rfl, rfl⟩ (fun v9 h32 h33 hq9 eh33 => ?_)
      obtain ⟨rfl, hw⟩ := hq9
      replace hw := hw h33 eh33
      refine x_b C (pc' := 76) (L' := [(0, vA (some o)), (1, vI p0)]) (st' := [vA (some o)]) [(.aload_n 0, 1)] ⟨dJ0_append_75, rfl⟩ rfl ?_
      exact x_aret C dJ0_append_76 (Or.inl ⟨_, rfl⟩) ⟨_, rfl, hw⟩
    refine x_if_eq C 56 52 dJ0_append_49 rfl rfl (fun hc19 => ?_) (fun hc19 => ?_)
    · replace hw := hw.1 hc19
      refine x_sub C (L' := [(0, vA (some o)), (1, vI p0)]) [0, 1] rfl ?_
      exact kj17 () h16 hw
    · replace hw := hw.2 hc19
      refine x_b C (pc' := 53) (L' := [(0, vA (some o)), (1, vI p0)]) (st' := [vA (some o)]) [(.aload_n 0, 1)] ⟨dJ0_append_52, rfl⟩ rfl ?_
      have hn20 := hw.1
      replace hw := hw.2
      obtain ⟨mc24, ms25, hle26, hw⟩ := hw
      refine x_cP C 21 56 (mc2 := mc24) (ms2 := ms25) [] [] dJ0_append_53 rfl (ok_J0_inflate hG hw) hle26 q406 q2924 q401 q407 q408 q161 q409 rfl rfl hx_java_lang_AbstractStringBuilder_inflate ⟨rfl, rfl, rfl⟩ hn20 (fun v9 h22 h23 hq9 eh23 => ?_)
      obtain ⟨rfl, hw⟩ := hq9
      replace hw := hw h23 eh23
      refine x_sub C (L' := [(0, vA (some o)), (1, vI p0)]) [0, 1] rfl ?_
      exact kj17 () h23 hw
  · replace hw := hw.2 hc12
    refine x_b C (pc' := 18) (L' := [(0, vA (some o)), (1, vI p0)]) (st' := [vI p0]) [(.iload_n 1, 1)] ⟨dJ0_append_17, rfl⟩ rfl ?_
    refine x_cS C 21 (mc2 := 0) (ms2 := 0) [vI p0] [] dJ0_append_18 rfl (ok_J7_canEncode hG hw) ⟨Nat.zero_le _, Nat.zero_le _⟩ q403 q404 q169 q405 hd_J7_canEncode ⟨rfl, rfl, rfl⟩ (fun v9 h38 h39 hq9 eh39 => ?_)
    obtain ⟨r37, rfl, hw⟩ := hq9
    replace hw := hw h39 eh39
    refine x_if_eq C 45 24 dJ0_append_21 rfl rfl (fun hc40 => ?_) (fun hc40 => ?_)
    · replace hw := hw.1 hc40
      refine x_b C (pc' := 46) (L' := [(0, vA (some o)), (1, vI p0)]) (st' := [vA (some o)]) [(.aload_n 0, 1)] ⟨dJ0_append_45, rfl⟩ rfl ?_
      have hn41 := hw.1
      replace hw := hw.2
      refine x_cU C 21 49 (x := ⟨"java/lang/AbstractStringBuilder", "isLatin1", "()Z"⟩) (mc2 := 0) (ms2 := 0) [] [] dJ0_append_46 rfl (ok_J0_isLatin1 hG hw) ⟨Nat.zero_le _, Nat.zero_le _⟩ q398 q400 q401 q399 q161 q402 (Or.inl rfl) rfl hx_java_lang_AbstractStringBuilder_isLatin1 ⟨rfl, rfl, rfl⟩ hn41 (fun v9 h43 h44 hq9 eh44 => ?_)
      obtain ⟨r42, rfl, hw⟩ := hq9
      replace hw := hw h44 eh44
      obtain ⟨J46, hw, hJ46⟩ := xjn.out hw
      have kj45 : ∀ (x55 : Unit) (T56 : AH), J46 x55 T56 → K 56 [(0, vA (some o)), (1, vI p0)] [] T56 := by
        intro x55 T56 hj
        replace hw := hJ46 x55 T56 hj
        refine x_b C (pc' := 57) (L' := [(0, vA (some o)), (1, vI p0)]) (st' := [vA (some o)]) [(.aload_n 0, 1)] ⟨dJ0_append_56, rfl⟩ rfl ?_
        have hn57 := hw.1
        replace hw := hw.2
        refine x_get C 21 0 (pc' := 60) (v := vA (T56.fr 2100 o)) dJ0_append_57 rfl rfl rfl q343 rfl hn57 ?_
        refine x_b C (pc' := 62) (L' := [(0, vA (some o)), (1, vI p0)]) (st' := [vA (some o), vA (some o), vA (T56.fr 2100 o)]) [(.aload_n 0, 1), (.dup, 1)] ⟨dJ0_append_60, dJ0_append_61, rfl⟩ rfl ?_
        refine x_get C 21 3 (pc' := 65) (v := vI (T56.fi 2103 o)) dJ0_append_62 rfl rfl rfl q346 rfl hn57 ?_
        refine x_b C (pc' := 68) (L' := [(0, vA (some o)), (1, vI p0)]) (st' := [vI ((T56.fi 2103 o) + 1), vA (some o), vI (T56.fi 2103 o), vA (T56.fr 2100 o)]) [(.dup_x1, 1), (.iconst 1, 1), (.iadd, 1)] ⟨dJ0_append_65, dJ0_append_66, dJ0_append_67, rfl⟩ rfl ?_
        refine x_pI C 21 3 71 dJ0_append_68 rfl rfl rfl rfl q346 (fun _ _ _ => rfl) rfl rfl hn57 (Or.inl rfl) (fun h58 eh58 => ?_)
        replace hw := hw h58 eh58
        refine x_b C (pc' := 72) (L' := [(0, vA (some o)), (1, vI p0)]) (st' := [vI p0, vI (T56.fi 2103 o), vA (T56.fr 2100 o)]) [(.iload_n 1, 1)] ⟨dJ0_append_71, rfl⟩ rfl ?_
        obtain ⟨mc62, ms63, hle64, hw⟩ := hw
        refine x_cS C 75 (mc2 := mc62) (ms2 := ms63) [vA (T56.fr 2100 o), vI (T56.fi 2103 o), vI p0] [] dJ0_append_72 rfl (ok_J3_putCharSB hG hw) hle64 q439 q440 q164 q441 hd_J3_putCharSB ⟨rfl, rfl, rfl⟩ (fun v9 h60 h61 hq9 eh61 => ?_)
        obtain ⟨rfl, hw⟩ := hq9
        replace hw := hw h61 eh61
        refine x_b C (pc' := 76) (L' := [(0, vA (some o)), (1, vI p0)]) (st' := [vA (some o)]) [(.aload_n 0, 1)] ⟨dJ0_append_75, rfl⟩ rfl ?_
        exact x_aret C dJ0_append_76 (Or.inl ⟨_, rfl⟩) ⟨_, rfl, hw⟩
      refine x_if_eq C 56 52 dJ0_append_49 rfl rfl (fun hc47 => ?_) (fun hc47 => ?_)
      · replace hw := hw.1 hc47
        refine x_sub C (L' := [(0, vA (some o)), (1, vI p0)]) [0, 1] rfl ?_
        exact kj45 () h44 hw
      · replace hw := hw.2 hc47
        refine x_b C (pc' := 53) (L' := [(0, vA (some o)), (1, vI p0)]) (st' := [vA (some o)]) [(.aload_n 0, 1)] ⟨dJ0_append_52, rfl⟩ rfl ?_
        have hn48 := hw.1
        replace hw := hw.2
        obtain ⟨mc52, ms53, hle54, hw⟩ := hw
        refine x_cP C 21 56 (mc2 := mc52) (ms2 := ms53) [] [] dJ0_append_53 rfl (ok_J0_inflate hG hw) hle54 q406 q2924 q401 q407 q408 q161 q409 rfl rfl hx_java_lang_AbstractStringBuilder_inflate ⟨rfl, rfl, rfl⟩ hn48 (fun v9 h50 h51 hq9 eh51 => ?_)
        obtain ⟨rfl, hw⟩ := hq9
        replace hw := hw h51 eh51
        refine x_sub C (L' := [(0, vA (some o)), (1, vI p0)]) [0, 1] rfl ?_
        exact kj45 () h51 hw
    · replace hw := hw.2 hc40
      refine x_b C (pc' := 25) (L' := [(0, vA (some o)), (1, vI p0)]) (st' := [vA (some o)]) [(.aload_n 0, 1)] ⟨dJ0_append_24, rfl⟩ rfl ?_
      have hn65 := hw.1
      replace hw := hw.2
      refine x_get C 21 0 (pc' := 28) (v := vA (h39.fr 2100 o)) dJ0_append_25 rfl rfl rfl q343 rfl hn65 ?_
      refine x_b C (pc' := 30) (L' := [(0, vA (some o)), (1, vI p0)]) (st' := [vA (some o), vA (some o), vA (h39.fr 2100 o)]) [(.aload_n 0, 1), (.dup, 1)] ⟨dJ0_append_28, dJ0_append_29, rfl⟩ rfl ?_
      refine x_get C 21 3 (pc' := 33) (v := vI (h39.fi 2103 o)) dJ0_append_30 rfl rfl rfl q346 rfl hn65 ?_
      refine x_b C (pc' := 36) (L' := [(0, vA (some o)), (1, vI p0)]) (st' := [vI ((h39.fi 2103 o) + 1), vA (some o), vI (h39.fi 2103 o), vA (h39.fr 2100 o)]) [(.dup_x1, 1), (.iconst 1, 1), (.iadd, 1)] ⟨dJ0_append_33, dJ0_append_34, dJ0_append_35, rfl⟩ rfl ?_
      refine x_pI C 21 3 39 dJ0_append_36 rfl rfl rfl rfl q346 (fun _ _ _ => rfl) rfl rfl hn65 (Or.inl rfl) (fun h66 eh66 => ?_)
      replace hw := hw h66 eh66
      refine x_b C (pc' := 41) (L' := [(0, vA (some o)), (1, vI p0)]) (st' := [vI (Int8.toInt32 (Int32.toInt8 p0)), vI (h39.fi 2103 o), vA (h39.fr 2100 o)]) [(.iload_n 1, 1), (.i2b, 1)] ⟨dJ0_append_39, dJ0_append_40, rfl⟩ rfl ?_
      refine y_bast C 42 dJ0_append_41 rfl hw.1 (Or.inr hw.2.1) (fun h67 eh67 => ?_)
      replace hw := hw.2.2 h67 eh67
      refine x_goto C 75 dJ0_append_42 rfl ?_
      refine x_b C (pc' := 76) (L' := [(0, vA (some o)), (1, vI p0)]) (st' := [vA (some o)]) [(.aload_n 0, 1)] ⟨dJ0_append_75, rfl⟩ rfl ?_
      exact x_aret C dJ0_append_76 (Or.inl ⟨_, rfl⟩) ⟨_, rfl, hw⟩
def wp_J0_getValue (o : Nat) (h : AH) (Q : Option Nat → AH → Prop) : Prop :=
  nn h (some o) 21 ∧
  Q (h.fr 2100 o) h
theorem hd_J0_getValue : yJ0_getValue.cls = RJ0 ∧ yJ0_getValue.cls ≠ "java/lang/invoke/MethodHandle" ∧ yJ0_getValue.cls ≠ "java/lang/invoke/VarHandle" ∧ (parseMethodDescriptor yJ0_getValue.desc).map (fun d => d.parameters.length) = some 0 := by decide +kernel
theorem ok_J0_getValue {l : Launch} {D : va_G} {s0 : S0} (hG : G0 D s0) {o : Nat} {h : AH} {Q : Option Nat → AH → Prop} (hw : wp_J0_getValue o h Q) : OKm l D s0 yJ0_getValue cJ0_getValue 1 (some (.array .byte)) 0 0 [vA (some o)] h (QA Q) := by
  refine x_metF hG (by decide +kernel) (own := RJ0) (mn := "getValue") rfl rfl (L0 := [(0, vA (some o))]) rfl rfl ?_
  intro K C
  unfold wp_J0_getValue at hw
  refine x_b C (pc' := 1) (L' := [(0, vA (some o))]) (st' := [vA (some o)]) [(.aload_n 0, 1)] ⟨dJ0_getValue_0, rfl⟩ rfl ?_
  have hn1 := hw.1
  replace hw := hw.2
  refine x_get C 21 0 (pc' := 4) (v := vA (h.fr 2100 o)) dJ0_getValue_1 rfl rfl rfl q343 rfl hn1 ?_
  exact x_aret C dJ0_getValue_4 (Or.inr ⟨_, rfl⟩) ⟨_, rfl, hw⟩
def wp_J0_init (o : Nat) (p0 : Int32) (h : AH) (Q : AH → Prop) : Prop :=
  nl h p0 ∧
  ∀ h1, h1 = h.new 41 (ni p0) (ni p0) →
  nn h1 (some o) 21 ∧
  ∀ h3, h3 = h1.sfr 2100 o (some h.sz) →
  ∀ h4, h4 = h3.sfi 2101 o (0) →
  Q h4
theorem hd_J0_init : yJ0_init.name = "<init>" ∧ yJ0_init.cls ≠ "java/lang/invoke/MethodHandle" ∧ yJ0_init.cls ≠ "java/lang/invoke/VarHandle" ∧ (parseMethodDescriptor yJ0_init.desc).map (fun d => d.parameters.length) = some 1 := by decide +kernel
theorem ok_J0_init {l : Launch} {D : va_G} {s0 : S0} (hG : G0 D s0) {o : Nat} {p0 : Int32} {h : AH} {Q : AH → Prop} (hw : wp_J0_init o p0 h Q) : OKm l D s0 yJ0_init cJ0_init 2 none 1 60 [vA (some o), vI p0] h (QV Q) := by
  refine x_metF hG (by decide +kernel) (own := RJ0) (mn := "<init>") rfl rfl (L0 := [(0, vA (some o)), (1, vI p0)]) rfl rfl ?_
  intro K C
  unfold wp_J0_init at hw
  refine x_b C (pc' := 1) (L' := [(0, vA (some o)), (1, vI p0)]) (st' := [vA (some o)]) [(.aload_n 0, 1)] ⟨dJ0_init_0, rfl⟩ rfl ?_
  refine x_objI C 4 [] dJ0_init_1 rfl q333 q208 q209 ⟨rfl, rfl⟩ ?_
  refine x_gets C 7 (v := vI 1) dJ0_init_4 rfl z_cs q334 ?_
  refine x_if_eq C 25 10 dJ0_init_7 rfl rfl (fun hc => absurd hc (by decide)) (fun _ => ?_)
  refine x_b C (pc' := 12) (L' := [(0, vA (some o)), (1, vI p0)]) (st' := [vI p0, vA (some o)]) [(.aload_n 0, 1), (.iload_n 1, 1)] ⟨dJ0_init_10, dJ0_init_11, rfl⟩ rfl ?_
  refine x_newa C 41 (atype := .byte) 14 dJ0_init_12 rfl rfl ⟨by decide, by decide⟩ (by decide) (fun _ _ q => q) q272 hw.1 (fun h1 eh1 => ?_)
  replace hw := hw.2 h1 eh1
  have hn2 := hw.1
  replace hw := hw.2
  refine x_pA C 21 0 17 dJ0_init_14 rfl rfl rfl rfl q343 (fun _ _ _ => rfl) (rf_n2 _) (rf_f2 _) hn2 (Or.inl rfl) (fun h3 eh3 => ?_)
  replace hw := hw h3 eh3
  refine x_b C (pc' := 19) (L' := [(0, vA (some o)), (1, vI p0)]) (st' := [vI 0, vA (some o)]) [(.aload_n 0, 1), (.iconst 0, 1)] ⟨dJ0_init_17, dJ0_init_18, rfl⟩ rfl ?_
  refine x_pI C 21 1 22 dJ0_init_19 rfl rfl rfl rfl q344 (fun _ _ _ => rfl) rfl rfl (nn_eq eh3 hn2 rfl) (Or.inl rfl) (fun h4 eh4 => ?_)
  replace hw := hw h4 eh4
  refine x_goto C 38 dJ0_init_22 rfl ?_
  exact x_vret C dJ0_init_38 ⟨rfl, hw⟩
def wp_J0_length (o : Nat) (h : AH) (Q : Int32 → AH → Prop) : Prop :=
  nn h (some o) 21 ∧
  Q (h.fi 2103 o) h
theorem hd_J0_length : yJ0_length.cls = RJ0 ∧ yJ0_length.cls ≠ "java/lang/invoke/MethodHandle" ∧ yJ0_length.cls ≠ "java/lang/invoke/VarHandle" ∧ (parseMethodDescriptor yJ0_length.desc).map (fun d => d.parameters.length) = some 0 := by decide +kernel
theorem hs_J0_length : yJ0_length.name ≠ "<init>" ∧ (parseMethodDescriptor yJ0_length.desc).map (fun d => d.parameters.length) = some 0 := by decide +kernel
theorem ok_J0_length {l : Launch} {D : va_G} {s0 : S0} (hG : G0 D s0) {o : Nat} {h : AH} {Q : Int32 → AH → Prop} (hw : wp_J0_length o h Q) : OKm l D s0 yJ0_length cJ0_length 1 (some .int) 0 0 [vA (some o)] h (QI Q) := by
  refine x_metF hG (by decide +kernel) (own := RJ0) (mn := "length") rfl rfl (L0 := [(0, vA (some o))]) rfl rfl ?_
  intro K C
  unfold wp_J0_length at hw
  refine x_b C (pc' := 1) (L' := [(0, vA (some o))]) (st' := [vA (some o)]) [(.aload_n 0, 1)] ⟨dJ0_length_0, rfl⟩ rfl ?_
  have hn1 := hw.1
  replace hw := hw.2
  refine x_get C 21 3 (pc' := 4) (v := vI (h.fi 2103 o)) dJ0_length_1 rfl rfl rfl q346 rfl hn1 ?_
  exact x_iret C dJ0_length_4 ⟨_, rfl, hw⟩
def wp_J10_init (o : Nat) (h : AH) (Q : AH → Prop) : Prop :=
  Q h
theorem hd_J10_init : yJ10_init.name = "<init>" ∧ yJ10_init.cls ≠ "java/lang/invoke/MethodHandle" ∧ yJ10_init.cls ≠ "java/lang/invoke/VarHandle" ∧ (parseMethodDescriptor yJ10_init.desc).map (fun d => d.parameters.length) = some 0 := by decide +kernel
theorem ok_J10_init {l : Launch} {D : va_G} {s0 : S0} (hG : G0 D s0) {o : Nat} {h : AH} {Q : AH → Prop} (hw : wp_J10_init o h Q) : OKm l D s0 yJ10_init cJ10_init 1 none 1 60 [vA (some o)] h (QV Q) := by
  refine x_metF hG (by decide +kernel) (own := RJ10) (mn := "<init>") rfl rfl (L0 := [(0, vA (some o))]) rfl rfl ?_
  intro K C
  unfold wp_J10_init at hw
  refine x_b C (pc' := 1) (L' := [(0, vA (some o))]) (st' := [vA (some o)]) [(.aload_n 0, 1)] ⟨dJ10_init_0, rfl⟩ rfl ?_
  refine x_objI C 4 [] dJ10_init_1 rfl q644 q208 q209 ⟨rfl, rfl⟩ ?_
  exact x_vret C dJ10_init_4 ⟨rfl, hw⟩
def wp_J11_init (o : Nat) (h : AH) (Q : AH → Prop) : Prop :=
  wp_J10_init o (h.srm 0 0) fun h2 => ∀ h3, h3 = h2.srm h.rc h.rs →
  nn h3 (some o) 23 ∧
  ∀ h5, h5 = h3.sfi 2300 o (0) →
  Q h5
theorem hd_J11_init : yJ11_init.name = "<init>" ∧ yJ11_init.cls ≠ "java/lang/invoke/MethodHandle" ∧ yJ11_init.cls ≠ "java/lang/invoke/VarHandle" ∧ (parseMethodDescriptor yJ11_init.desc).map (fun d => d.parameters.length) = some 0 := by decide +kernel
theorem ok_J11_init {l : Launch} {D : va_G} {s0 : S0} (hG : G0 D s0) {o : Nat} {h : AH} {Q : AH → Prop} (hw : wp_J11_init o h Q) : OKm l D s0 yJ11_init cJ11_init 1 none 2 80 [vA (some o)] h (QV Q) := by
  refine x_metF hG (by decide +kernel) (own := RJ11) (mn := "<init>") rfl rfl (L0 := [(0, vA (some o))]) rfl rfl ?_
  intro K C
  unfold wp_J11_init at hw
  refine x_b C (pc' := 1) (L' := [(0, vA (some o))]) (st' := [vA (some o)]) [(.aload_n 0, 1)] ⟨dJ11_init_0, rfl⟩ rfl ?_
  refine x_cI C 4 (mc2 := 0) (ms2 := 0) [] [] dJ11_init_1 rfl (ok_J10_init hG hw) ⟨Nat.zero_le _, Nat.zero_le _⟩ q641 q642 q173 q643 hd_J10_init ⟨rfl, rfl, rfl⟩ (fun v9 h2 h3 hq9 eh3 => ?_)
  obtain ⟨rfl, hw⟩ := hq9
  replace hw := hw h3 eh3
  refine x_b C (pc' := 6) (L' := [(0, vA (some o))]) (st' := [vI 0, vA (some o)]) [(.aload_n 0, 1), (.iconst 0, 1)] ⟨dJ11_init_4, dJ11_init_5, rfl⟩ rfl ?_
  have hn4 := hw.1
  replace hw := hw.2
  refine x_pI C 23 0 9 dJ11_init_6 rfl rfl rfl rfl q653 (fun _ _ _ => rfl) rfl rfl hn4 (Or.inl rfl) (fun h5 eh5 => ?_)
  replace hw := hw h5 eh5
  exact x_vret C dJ11_init_9 ⟨rfl, hw⟩
def wp_J6_copyOf_3 (p0 : Option Nat) (p1 : Int32) (p2 : Option Nat) (h : AH) (Q : Option Nat → AH → Prop) : Prop :=
  ((p2 = (sref (h.cs 501)) →
  nl h p1 ∧
  ∀ h2, h2 = h.new 44 (ni p1) (ni p1) →
  nn h2 p0 44 ∧
  cpk h2 44 p0 0 (some h.sz) 0 (if p1 < (nI (h2.kd (adr p0)).2) then p1 else (nI (h2.kd (adr p0)).2)) ∧
  (∀ i, i < ni (if p1 < (nI (h2.kd (adr p0)).2) then p1 else (nI (h2.kd (adr p0)).2)) → ∀ y, h2.ar (adr p0) (ni 0 + i) = some y → anyO h2 y) ∧
  ∀ h4, h4 = h2.war h.sz (va_cpy (h2.ar (adr p0)) (h2.ar h.sz) (ni 0) (ni 0) (ni (if p1 < (nI (h2.kd (adr p0)).2) then p1 else (nI (h2.kd (adr p0)).2)))) →
  Q (some h.sz) h4) ∧ (¬ p2 = (sref (h.cs 501)) →
  False))
theorem hd_J6_copyOf_3 : yJ6_copyOf_3.cls ≠ "java/lang/invoke/MethodHandle" ∧ yJ6_copyOf_3.cls ≠ "java/lang/invoke/VarHandle" ∧ (parseMethodDescriptor yJ6_copyOf_3.desc).map (fun d => d.parameters.length) = some 3 := by decide +kernel
theorem ok_J6_copyOf_3 {l : Launch} {D : va_G} {s0 : S0} (hG : G0 D s0) {p0 : Option Nat} {p1 : Int32} {p2 : Option Nat} {h : AH} {Q : Option Nat → AH → Prop} (hw : wp_J6_copyOf_3 p0 p1 p2 h Q) : OKm l D s0 yJ6_copyOf_3 cJ6_copyOf_3 4 (some (.array (.object "java/lang/Object"))) 1 60 [vA p0, vI p1, vA p2] h (QA Q) := by
  refine x_metF hG (by decide +kernel) (own := RJ6) (mn := "copyOf") rfl rfl (L0 := [(0, vA p0), (1, vI p1), (2, vA p2)]) rfl rfl ?_
  intro K C
  unfold wp_J6_copyOf_3 at hw
  refine x_b C (pc' := 1) (L' := [(0, vA p0), (1, vI p1), (2, vA p2)]) (st' := [vA p2]) [(.aload_n 2, 1)] ⟨dJ6_copyOf_3_0, rfl⟩ rfl ?_
  refine x_ldcM C 3 dJ6_copyOf_3_1 rfl q1029 x_mx ?_
  refine x_acmp_ne C 13 6 dJ6_copyOf_3_3 rfl rfl (fun hc1 => ?_) (fun hc1 => ?_)
  · replace hw := hw.2 hc1
    refine x_b C (pc' := 14) (L' := [(0, vA p0), (1, vI p1), (2, vA p2)]) (st' := [vA p2]) [(.aload_n 2, 1)] ⟨dJ6_copyOf_3_13, rfl⟩ rfl ?_
    exact hw.elim
  · replace hw := hw.1 hc1
    refine x_b C (pc' := 7) (L' := [(0, vA p0), (1, vI p1), (2, vA p2)]) (st' := [vI p1]) [(.iload_n 1, 1)] ⟨dJ6_copyOf_3_6, rfl⟩ rfl ?_
    refine x_anew C 44 10 dJ6_copyOf_3_7 rfl rfl q1030 q646 hw.1 (fun h2 eh2 => ?_)
    replace hw := hw.2 h2 eh2
    refine x_goto C 24 dJ6_copyOf_3_10 rfl ?_
    refine x_b C (pc' := 30) (L' := [(3, vA (some h.sz)), (0, vA p0), (1, vI p1), (2, vA p2)]) (st' := [vA p0, vI 0, vA (some h.sz), vI 0, vA p0]) [(.astore_n 3, 1), (.aload_n 0, 1), (.iconst 0, 1), (.aload_n 3, 1), (.iconst 0, 1), (.aload_n 0, 1)] ⟨dJ6_copyOf_3_24, dJ6_copyOf_3_25, dJ6_copyOf_3_26, dJ6_copyOf_3_27, dJ6_copyOf_3_28, dJ6_copyOf_3_29, rfl⟩ rfl ?_
    have hn3 := hw.1
    replace hw := hw.2
    refine x_alen C 44 31 dJ6_copyOf_3_30 rfl rfl hn3 ?_
    refine x_b C (pc' := 32) (L' := [(3, vA (some h.sz)), (0, vA p0), (1, vI p1), (2, vA p2)]) (st' := [vI p1, vI (nI (h2.kd (adr p0)).2), vI 0, vA (some h.sz), vI 0, vA p0]) [(.iload_n 1, 1)] ⟨dJ6_copyOf_3_31, rfl⟩ rfl ?_
    refine x_mmin C 35 [vI 0, vA (some h.sz), vI 0, vA p0] dJ6_copyOf_3_32 rfl q392 q393 q166 q394 ⟨rfl, rfl⟩ ?_
    refine x_copyA C 38 [] dJ6_copyOf_3_35 rfl q395 q397 q396 q168 ⟨rfl, rfl⟩ hw.1 hw.2.1 (fun h4 eh4 => ?_)
    replace hw := hw.2.2 h4 eh4
    refine x_b C (pc' := 39) (L' := [(3, vA (some h.sz)), (0, vA p0), (1, vI p1), (2, vA p2)]) (st' := [vA (some h.sz)]) [(.aload_n 3, 1)] ⟨dJ6_copyOf_3_38, rfl⟩ rfl ?_
    exact x_aret C dJ6_copyOf_3_39 (Or.inr ⟨_, rfl⟩) ⟨_, rfl, hw⟩
def wp_J6_copyOf_2 (p0 : Option Nat) (p1 : Int32) (h : AH) (Q : Option Nat → AH → Prop) : Prop :=
  nn h p0 44 ∧
  cl h fun mc5 ms6 => wp_J6_copyOf_3 p0 p1 (sref (h.cs 501)) (h.srm mc5 ms6) fun r2 h3 => ∀ h4, h4 = h3.srm (h.rc - mc5) (h.rs - ms6) →
  Q r2 h4
theorem hd_J6_copyOf_2 : yJ6_copyOf_2.cls ≠ "java/lang/invoke/MethodHandle" ∧ yJ6_copyOf_2.cls ≠ "java/lang/invoke/VarHandle" ∧ (parseMethodDescriptor yJ6_copyOf_2.desc).map (fun d => d.parameters.length) = some 2 := by decide +kernel
theorem ok_J6_copyOf_2 {l : Launch} {D : va_G} {s0 : S0} (hG : G0 D s0) {p0 : Option Nat} {p1 : Int32} {h : AH} {Q : Option Nat → AH → Prop} (hw : wp_J6_copyOf_2 p0 p1 h Q) : OKm l D s0 yJ6_copyOf_2 cJ6_copyOf_2 2 (some (.array (.object "java/lang/Object"))) 2 83 [vA p0, vI p1] h (QA Q) := by
  refine x_metF hG (by decide +kernel) (own := RJ6) (mn := "copyOf") rfl rfl (L0 := [(0, vA p0), (1, vI p1)]) rfl rfl ?_
  intro K C
  unfold wp_J6_copyOf_2 at hw
  refine x_b C (pc' := 3) (L' := [(0, vA p0), (1, vI p1)]) (st' := [vA p0, vI p1, vA p0]) [(.aload_n 0, 1), (.iload_n 1, 1), (.aload_n 0, 1)] ⟨dJ6_copyOf_2_0, dJ6_copyOf_2_1, dJ6_copyOf_2_2, rfl⟩ rfl ?_
  have hn1 := hw.1
  replace hw := hw.2
  refine x_getC C 6 [vI p1, vA p0] dJ6_copyOf_2_3 rfl q995 q2965 q2964 q996 q1025 x_mx ⟨rfl, rfl⟩ hn1 ?_
  obtain ⟨mc5, ms6, hle7, hw⟩ := hw
  refine x_cS C 9 (mc2 := mc5) (ms2 := ms6) [vA p0, vI p1, vA (sref (h.cs 501))] [] dJ6_copyOf_2_6 rfl (ok_J6_copyOf_3 hG hw) hle7 q1026 q1027 q167 q1028 hd_J6_copyOf_3 ⟨rfl, rfl, rfl⟩ (fun v9 h3 h4 hq9 eh4 => ?_)
  obtain ⟨r2, rfl, hw⟩ := hq9
  replace hw := hw h4 eh4
  exact x_aret C dJ6_copyOf_2_9 (Or.inr ⟨_, rfl⟩) ⟨_, rfl, hw⟩
def wp_J12_grow_2 (o : Nat) (p0 : Int32) (h : AH) (Q : Option Nat → AH → Prop) : Prop :=
  nn h (some o) 23 ∧
  nn h (h.fr 2301 o) 44 ∧
  ((0 < (nI (h.kd (adr (h.fr 2301 o))).2) →
  cl h fun mc7 ms8 => wp_J4_newLength (nI (h.kd (adr (h.fr 2301 o))).2) (p0 - (nI (h.kd (adr (h.fr 2301 o))).2)) (jshr (nI (h.kd (adr (h.fr 2301 o))).2) 1) (h.srm mc7 ms8) fun r4 h5 => ∀ h6, h6 = h5.srm (h.rc - mc7) (h.rs - ms8) →
  nn h6 (some o) 23 ∧
  cl h6 fun mc14 ms15 => wp_J6_copyOf_2 (h6.fr 2301 o) r4 (h6.srm mc14 ms15) fun r11 h12 => ∀ h13, h13 = h12.srm (h6.rc - mc14) (h6.rs - ms15) →
  nn h13 (some o) 23 ∧
  ∀ h18, h18 = h13.sfr 2301 o r11 →
  Q r11 h18) ∧ (¬ 0 < (nI (h.kd (adr (h.fr 2301 o))).2) →
  (((h.fr 2301 o) = (sref (h.cs 502)) →
  nl h (if 10 < p0 then p0 else 10) ∧
  ∀ h20, h20 = h.new 44 (ni (if 10 < p0 then p0 else 10)) (ni (if 10 < p0 then p0 else 10)) →
  nn h20 (some o) 23 ∧
  ∀ h22, h22 = h20.sfr 2301 o (some h.sz) →
  Q (some h.sz) h22) ∧ (¬ (h.fr 2301 o) = (sref (h.cs 502)) →
  cl h fun mc26 ms27 => wp_J4_newLength (nI (h.kd (adr (h.fr 2301 o))).2) (p0 - (nI (h.kd (adr (h.fr 2301 o))).2)) (jshr (nI (h.kd (adr (h.fr 2301 o))).2) 1) (h.srm mc26 ms27) fun r23 h24 => ∀ h25, h25 = h24.srm (h.rc - mc26) (h.rs - ms27) →
  nn h25 (some o) 23 ∧
  cl h25 fun mc33 ms34 => wp_J6_copyOf_2 (h25.fr 2301 o) r23 (h25.srm mc33 ms34) fun r30 h31 => ∀ h32, h32 = h31.srm (h25.rc - mc33) (h25.rs - ms34) →
  nn h32 (some o) 23 ∧
  ∀ h37, h37 = h32.sfr 2301 o r30 →
  Q r30 h37))))
theorem hd_J12_grow_2 : yJ12_grow_2.cls = RJ12 ∧ yJ12_grow_2.cls ≠ "java/lang/invoke/MethodHandle" ∧ yJ12_grow_2.cls ≠ "java/lang/invoke/VarHandle" ∧ (parseMethodDescriptor yJ12_grow_2.desc).map (fun d => d.parameters.length) = some 1 := by decide +kernel
theorem ok_J12_grow_2 {l : Launch} {D : va_G} {s0 : S0} (hG : G0 D s0) {o : Nat} {p0 : Int32} {h : AH} {Q : Option Nat → AH → Prop} (hw : wp_J12_grow_2 o p0 h Q) : OKm l D s0 yJ12_grow_2 cJ12_grow_2 4 (some (.array (.object "java/lang/Object"))) 3 105 [vA (some o), vI p0] h (QA Q) := by
  refine x_metF hG (by decide +kernel) (own := RJ12) (mn := "grow") rfl rfl (L0 := [(0, vA (some o)), (1, vI p0)]) rfl rfl ?_
  intro K C
  unfold wp_J12_grow_2 at hw
  refine x_b C (pc' := 1) (L' := [(0, vA (some o)), (1, vI p0)]) (st' := [vA (some o)]) [(.aload_n 0, 1)] ⟨dJ12_grow_2_0, rfl⟩ rfl ?_
  have hn1 := hw.1
  replace hw := hw.2
  refine x_get C 23 1 (pc' := 4) (v := vA (h.fr 2301 o)) dJ12_grow_2_1 rfl rfl rfl q649 rfl hn1 ?_
  have hn2 := hw.1
  replace hw := hw.2
  refine x_alen C 44 5 dJ12_grow_2_4 rfl rfl hn2 ?_
  refine x_b C (pc' := 7) (L' := [(2, vI (nI (h.kd (adr (h.fr 2301 o))).2)), (0, vA (some o)), (1, vI p0)]) (st' := [vI (nI (h.kd (adr (h.fr 2301 o))).2)]) [(.istore_n 2, 1), (.iload_n 2, 1)] ⟨dJ12_grow_2_5, dJ12_grow_2_6, rfl⟩ rfl ?_
  refine x_if_gt C 20 10 dJ12_grow_2_7 rfl rfl (fun hc3 => ?_) (fun hc3 => ?_)
  · replace hw := hw.1 hc3
    refine x_b C (pc' := 27) (L' := [(2, vI (nI (h.kd (adr (h.fr 2301 o))).2)), (0, vA (some o)), (1, vI p0)]) (st' := [vI (jshr (nI (h.kd (adr (h.fr 2301 o))).2) 1), vI (p0 - (nI (h.kd (adr (h.fr 2301 o))).2)), vI (nI (h.kd (adr (h.fr 2301 o))).2)]) [(.iload_n 2, 1), (.iload_n 1, 1), (.iload_n 2, 1), (.isub, 1), (.iload_n 2, 1), (.iconst 1, 1), (.ishr, 1)] ⟨dJ12_grow_2_20, dJ12_grow_2_21, dJ12_grow_2_22, dJ12_grow_2_23, dJ12_grow_2_24, dJ12_grow_2_25, dJ12_grow_2_26, rfl⟩ rfl ?_
    obtain ⟨mc7, ms8, hle9, hw⟩ := hw
    refine x_cS C 30 (mc2 := mc7) (ms2 := ms8) [vI (nI (h.kd (adr (h.fr 2301 o))).2), vI (p0 - (nI (h.kd (adr (h.fr 2301 o))).2)), vI (jshr (nI (h.kd (adr (h.fr 2301 o))).2) 1)] [] dJ12_grow_2_27 rfl (ok_J4_newLength hG hw) hle9 q991 q372 q165 q373 hd_J4_newLength ⟨rfl, rfl, rfl⟩ (fun v9 h5 h6 hq9 eh6 => ?_)
    obtain ⟨r4, rfl, hw⟩ := hq9
    replace hw := hw h6 eh6
    refine x_b C (pc' := 33) (L' := [(3, vI r4), (2, vI (nI (h.kd (adr (h.fr 2301 o))).2)), (0, vA (some o)), (1, vI p0)]) (st' := [vA (some o), vA (some o)]) [(.istore_n 3, 1), (.aload_n 0, 1), (.aload_n 0, 1)] ⟨dJ12_grow_2_30, dJ12_grow_2_31, dJ12_grow_2_32, rfl⟩ rfl ?_
    have hn10 := hw.1
    replace hw := hw.2
    refine x_get C 23 1 (pc' := 36) (v := vA (h6.fr 2301 o)) dJ12_grow_2_33 rfl rfl rfl q649 rfl hn10 ?_
    refine x_b C (pc' := 37) (L' := [(3, vI r4), (2, vI (nI (h.kd (adr (h.fr 2301 o))).2)), (0, vA (some o)), (1, vI p0)]) (st' := [vI r4, vA (h6.fr 2301 o), vA (some o)]) [(.iload_n 3, 1)] ⟨dJ12_grow_2_36, rfl⟩ rfl ?_
    obtain ⟨mc14, ms15, hle16, hw⟩ := hw
    refine x_cS C 40 (mc2 := mc14) (ms2 := ms15) [vA (h6.fr 2301 o), vI r4] [vA (some o)] dJ12_grow_2_37 rfl (ok_J6_copyOf_2 hG hw) hle16 q992 q993 q167 q994 hd_J6_copyOf_2 ⟨rfl, rfl, rfl⟩ (fun v9 h12 h13 hq9 eh13 => ?_)
    obtain ⟨r11, rfl, hw⟩ := hq9
    replace hw := hw h13 eh13
    refine x_b C (pc' := 41) (L' := [(3, vI r4), (2, vI (nI (h.kd (adr (h.fr 2301 o))).2)), (0, vA (some o)), (1, vI p0)]) (st' := [vA r11, vA (some o), vA r11]) [(.dup_x1, 1)] ⟨dJ12_grow_2_40, rfl⟩ rfl ?_
    have hn17 := hw.1
    replace hw := hw.2
    refine x_pA C 23 1 44 dJ12_grow_2_41 rfl rfl rfl rfl q649 (fun _ _ _ => rfl) (rf_n2 _) (rf_f2 _) hn17 (Or.inl rfl) (fun h18 eh18 => ?_)
    replace hw := hw h18 eh18
    exact x_aret C dJ12_grow_2_44 (Or.inr ⟨_, rfl⟩) ⟨_, rfl, hw⟩
  · replace hw := hw.2 hc3
    refine x_b C (pc' := 11) (L' := [(2, vI (nI (h.kd (adr (h.fr 2301 o))).2)), (0, vA (some o)), (1, vI p0)]) (st' := [vA (some o)]) [(.aload_n 0, 1)] ⟨dJ12_grow_2_10, rfl⟩ rfl ?_
    refine x_get C 23 1 (pc' := 14) (v := vA (h.fr 2301 o)) dJ12_grow_2_11 rfl rfl rfl q649 rfl hn1 ?_
    refine x_getsR C 502 17 dJ12_grow_2_14 rfl z_dce q989 ?_
    refine x_acmp_eq C 45 20 dJ12_grow_2_17 rfl rfl (fun hc19 => ?_) (fun hc19 => ?_)
    · replace hw := hw.1 hc19
      refine x_b C (pc' := 49) (L' := [(2, vI (nI (h.kd (adr (h.fr 2301 o))).2)), (0, vA (some o)), (1, vI p0)]) (st' := [vI p0, vI 10, vA (some o)]) [(.aload_n 0, 1), (.bipush 10, 2), (.iload_n 1, 1)] ⟨dJ12_grow_2_45, dJ12_grow_2_46, dJ12_grow_2_48, rfl⟩ rfl ?_
      refine x_mmax C 52 [vA (some o)] dJ12_grow_2_49 rfl q1031 q375 q166 q376 ⟨rfl, rfl⟩ ?_
      refine x_anew C 44 55 dJ12_grow_2_52 rfl rfl q645 q646 hw.1 (fun h20 eh20 => ?_)
      replace hw := hw.2 h20 eh20
      refine x_b C (pc' := 56) (L' := [(2, vI (nI (h.kd (adr (h.fr 2301 o))).2)), (0, vA (some o)), (1, vI p0)]) (st' := [vA (some h.sz), vA (some o), vA (some h.sz)]) [(.dup_x1, 1)] ⟨dJ12_grow_2_55, rfl⟩ rfl ?_
      have hn21 := hw.1
      replace hw := hw.2
      refine x_pA C 23 1 59 dJ12_grow_2_56 rfl rfl rfl rfl q649 (fun _ _ _ => rfl) (rf_n2 _) (rf_f2 _) hn21 (Or.inl rfl) (fun h22 eh22 => ?_)
      replace hw := hw h22 eh22
      exact x_aret C dJ12_grow_2_59 (Or.inr ⟨_, rfl⟩) ⟨_, rfl, hw⟩
    · replace hw := hw.2 hc19
      refine x_b C (pc' := 27) (L' := [(2, vI (nI (h.kd (adr (h.fr 2301 o))).2)), (0, vA (some o)), (1, vI p0)]) (st' := [vI (jshr (nI (h.kd (adr (h.fr 2301 o))).2) 1), vI (p0 - (nI (h.kd (adr (h.fr 2301 o))).2)), vI (nI (h.kd (adr (h.fr 2301 o))).2)]) [(.iload_n 2, 1), (.iload_n 1, 1), (.iload_n 2, 1), (.isub, 1), (.iload_n 2, 1), (.iconst 1, 1), (.ishr, 1)] ⟨dJ12_grow_2_20, dJ12_grow_2_21, dJ12_grow_2_22, dJ12_grow_2_23, dJ12_grow_2_24, dJ12_grow_2_25, dJ12_grow_2_26, rfl⟩ rfl ?_
      obtain ⟨mc26, ms27, hle28, hw⟩ := hw
      refine x_cS C 30 (mc2 := mc26) (ms2 := ms27) [vI (nI (h.kd (adr (h.fr 2301 o))).2), vI (p0 - (nI (h.kd (adr (h.fr 2301 o))).2)), vI (jshr (nI (h.kd (adr (h.fr 2301 o))).2) 1)] [] dJ12_grow_2_27 rfl (ok_J4_newLength hG hw) hle28 q991 q372 q165 q373 hd_J4_newLength ⟨rfl, rfl, rfl⟩ (fun v9 h24 h25 hq9 eh25 => ?_)
      obtain ⟨r23, rfl, hw⟩ := hq9
      replace hw := hw h25 eh25
      refine x_b C (pc' := 33) (L' := [(3, vI r23), (2, vI (nI (h.kd (adr (h.fr 2301 o))).2)), (0, vA (some o)), (1, vI p0)]) (st' := [vA (some o), vA (some o)]) [(.istore_n 3, 1), (.aload_n 0, 1), (.aload_n 0, 1)] ⟨dJ12_grow_2_30, dJ12_grow_2_31, dJ12_grow_2_32, rfl⟩ rfl ?_
      have hn29 := hw.1
      replace hw := hw.2
      refine x_get C 23 1 (pc' := 36) (v := vA (h25.fr 2301 o)) dJ12_grow_2_33 rfl rfl rfl q649 rfl hn29 ?_
      refine x_b C (pc' := 37) (L' := [(3, vI r23), (2, vI (nI (h.kd (adr (h.fr 2301 o))).2)), (0, vA (some o)), (1, vI p0)]) (st' := [vI r23, vA (h25.fr 2301 o), vA (some o)]) [(.iload_n 3, 1)] ⟨dJ12_grow_2_36, rfl⟩ rfl ?_
      obtain ⟨mc33, ms34, hle35, hw⟩ := hw
      refine x_cS C 40 (mc2 := mc33) (ms2 := ms34) [vA (h25.fr 2301 o), vI r23] [vA (some o)] dJ12_grow_2_37 rfl (ok_J6_copyOf_2 hG hw) hle35 q992 q993 q167 q994 hd_J6_copyOf_2 ⟨rfl, rfl, rfl⟩ (fun v9 h31 h32 hq9 eh32 => ?_)
      obtain ⟨r30, rfl, hw⟩ := hq9
      replace hw := hw h32 eh32
      refine x_b C (pc' := 41) (L' := [(3, vI r23), (2, vI (nI (h.kd (adr (h.fr 2301 o))).2)), (0, vA (some o)), (1, vI p0)]) (st' := [vA r30, vA (some o), vA r30]) [(.dup_x1, 1)] ⟨dJ12_grow_2_40, rfl⟩ rfl ?_
      have hn36 := hw.1
      replace hw := hw.2
      refine x_pA C 23 1 44 dJ12_grow_2_41 rfl rfl rfl rfl q649 (fun _ _ _ => rfl) (rf_n2 _) (rf_f2 _) hn36 (Or.inl rfl) (fun h37 eh37 => ?_)
      replace hw := hw h37 eh37
      exact x_aret C dJ12_grow_2_44 (Or.inr ⟨_, rfl⟩) ⟨_, rfl, hw⟩
def wp_J12_grow (o : Nat) (h : AH) (Q : Option Nat → AH → Prop) : Prop :=
  nn h (some o) 23 ∧
  cl h fun mc5 ms6 => wp_J12_grow_2 o ((h.fi 2302 o) + 1) (h.srm mc5 ms6) fun r2 h3 => ∀ h4, h4 = h3.srm (h.rc - mc5) (h.rs - ms6) →
  Q r2 h4
theorem hd_J12_grow : yJ12_grow.cls = RJ12 ∧ yJ12_grow.cls ≠ "java/lang/invoke/MethodHandle" ∧ yJ12_grow.cls ≠ "java/lang/invoke/VarHandle" ∧ (parseMethodDescriptor yJ12_grow.desc).map (fun d => d.parameters.length) = some 0 := by decide +kernel
theorem ok_J12_grow {l : Launch} {D : va_G} {s0 : S0} (hG : G0 D s0) {o : Nat} {h : AH} {Q : Option Nat → AH → Prop} (hw : wp_J12_grow o h Q) : OKm l D s0 yJ12_grow cJ12_grow 1 (some (.array (.object "java/lang/Object"))) 4 128 [vA (some o)] h (QA Q) := by
  refine x_metF hG (by decide +kernel) (own := RJ12) (mn := "grow") rfl rfl (L0 := [(0, vA (some o))]) rfl rfl ?_
  intro K C
  unfold wp_J12_grow at hw
  refine x_b C (pc' := 2) (L' := [(0, vA (some o))]) (st' := [vA (some o), vA (some o)]) [(.aload_n 0, 1), (.aload_n 0, 1)] ⟨dJ12_grow_0, dJ12_grow_1, rfl⟩ rfl ?_
  have hn1 := hw.1
  replace hw := hw.2
  refine x_get C 23 2 (pc' := 5) (v := vI (h.fi 2302 o)) dJ12_grow_2 rfl rfl rfl q652 rfl hn1 ?_
  refine x_b C (pc' := 7) (L' := [(0, vA (some o))]) (st' := [vI ((h.fi 2302 o) + 1), vA (some o)]) [(.iconst 1, 1), (.iadd, 1)] ⟨dJ12_grow_5, dJ12_grow_6, rfl⟩ rfl ?_
  obtain ⟨mc5, ms6, hle7, hw⟩ := hw
  refine x_cV C 23 10 (mc2 := mc5) (ms2 := ms6) [vI ((h.fi 2302 o) + 1)] [] dJ12_grow_7 rfl (ok_J12_grow_2 hG hw) hle7 q985 q987 qs17 q175 q988 rfl hd_J12_grow_2 ⟨rfl, rfl, rfl⟩ hn1 (fun v9 h3 h4 hq9 eh4 => ?_)
  obtain ⟨r2, rfl, hw⟩ := hq9
  replace hw := hw h4 eh4
  exact x_aret C dJ12_grow_10 (Or.inr ⟨_, rfl⟩) ⟨_, rfl, hw⟩
def wp_J12_add_2 (o : Nat) (p0 : Option Nat) (p1 : Option Nat) (p2 : Int32) (h : AH) (Q : AH → Prop) : Prop :=
  nn h p1 44 ∧
  xjn (α := Option Nat) (fun J3 =>
  ((p2 = (nI (h.kd (adr p1)).2) →
  nn h (some o) 23 ∧
  cl h fun mc9 ms10 => wp_J12_grow o (h.srm mc9 ms10) fun r6 h7 => ∀ h8, h8 = h7.srm (h.rc - mc9) (h.rs - ms10) →
  J3 r6 h8) ∧ (¬ p2 = (nI (h.kd (adr p1)).2) →
  J3 p1 h))) (fun x12 T13 =>
  ix T13 x12 44 p2 ∧
  sto T13 p0 44 ∧
  ∀ h14, h14 = T13.sar (adr x12) (ni p2) p0 →
  nn h14 (some o) 23 ∧
  ∀ h16, h16 = h14.sfi 2302 o (p2 + 1) →
  Q h16)
theorem hd_J12_add_2 : yJ12_add_2.cls = RJ12 ∧ yJ12_add_2.cls ≠ "java/lang/invoke/MethodHandle" ∧ yJ12_add_2.cls ≠ "java/lang/invoke/VarHandle" ∧ (parseMethodDescriptor yJ12_add_2.desc).map (fun d => d.parameters.length) = some 3 := by decide +kernel
theorem ok_J12_add_2 {l : Launch} {D : va_G} {s0 : S0} (hG : G0 D s0) {o : Nat} {p0 : Option Nat} {p1 : Option Nat} {p2 : Int32} {h : AH} {Q : AH → Prop} (hw : wp_J12_add_2 o p0 p1 p2 h Q) : OKm l D s0 yJ12_add_2 cJ12_add_2 4 none 5 148 [vA (some o), vA p0, vA p1, vI p2] h (QV Q) := by
  refine x_metF hG (by decide +kernel) (own := RJ12) (mn := "add") rfl rfl (L0 := [(0, vA (some o)), (1, vA p0), (2, vA p1), (3, vI p2)]) rfl rfl ?_
  intro K C
  unfold wp_J12_add_2 at hw
  refine x_b C (pc' := 2) (L' := [(0, vA (some o)), (1, vA p0), (2, vA p1), (3, vI p2)]) (st' := [vA p1, vI p2]) [(.iload_n 3, 1), (.aload_n 2, 1)] ⟨dJ12_add_2_0, dJ12_add_2_1, rfl⟩ rfl ?_
  have hn1 := hw.1
  replace hw := hw.2
  refine x_alen C 44 3 dJ12_add_2_2 rfl rfl hn1 ?_
  obtain ⟨J3, hw, hJ3⟩ := xjn.out hw
  have kj2 : ∀ (x12 : Option Nat) (T13 : AH), J3 x12 T13 → K 11 [(0, vA (some o)), (1, vA p0), (2, vA x12), (3, vI p2)] [] T13 := by
    intro x12 T13 hj
    replace hw := hJ3 x12 T13 hj
    refine x_b C (pc' := 14) (L' := [(0, vA (some o)), (1, vA p0), (2, vA x12), (3, vI p2)]) (st' := [vA p0, vI p2, vA x12]) [(.aload_n 2, 1), (.iload_n 3, 1), (.aload_n 1, 1)] ⟨dJ12_add_2_11, dJ12_add_2_12, dJ12_add_2_13, rfl⟩ rfl ?_
    refine x_aast C 44 15 dJ12_add_2_14 rfl rfl rfl hw.1 hw.2.1 (fun h14 eh14 => ?_)
    replace hw := hw.2.2 h14 eh14
    refine x_b C (pc' := 19) (L' := [(0, vA (some o)), (1, vA p0), (2, vA x12), (3, vI p2)]) (st' := [vI (p2 + 1), vA (some o)]) [(.aload_n 0, 1), (.iload_n 3, 1), (.iconst 1, 1), (.iadd, 1)] ⟨dJ12_add_2_15, dJ12_add_2_16, dJ12_add_2_17, dJ12_add_2_18, rfl⟩ rfl ?_
    have hn15 := hw.1
    replace hw := hw.2
    refine x_pI C 23 2 22 dJ12_add_2_19 rfl rfl rfl rfl q652 (fun _ _ _ => rfl) rfl rfl hn15 (Or.inl rfl) (fun h16 eh16 => ?_)
    replace hw := hw h16 eh16
    exact x_vret C dJ12_add_2_22 ⟨rfl, hw⟩
  refine x_icmp_ne C 11 6 dJ12_add_2_3 rfl rfl (fun hc4 => ?_) (fun hc4 => ?_)
  · replace hw := hw.2 hc4
    refine x_sub C (L' := [(0, vA (some o)), (1, vA p0), (2, vA p1), (3, vI p2)]) [0, 1, 2, 3] rfl ?_
    exact kj2 p1 h hw
  · replace hw := hw.1 hc4
    refine x_b C (pc' := 7) (L' := [(0, vA (some o)), (1, vA p0), (2, vA p1), (3, vI p2)]) (st' := [vA (some o)]) [(.aload_n 0, 1)] ⟨dJ12_add_2_6, rfl⟩ rfl ?_
    have hn5 := hw.1
    replace hw := hw.2
    obtain ⟨mc9, ms10, hle11, hw⟩ := hw
    refine x_cV C 23 10 (mc2 := mc9) (ms2 := ms10) [] [] dJ12_add_2_7 rfl (ok_J12_grow hG hw) hle11 q981 q983 qs16 q175 q984 rfl hd_J12_grow ⟨rfl, rfl, rfl⟩ hn5 (fun v9 h7 h8 hq9 eh8 => ?_)
    obtain ⟨r6, rfl, hw⟩ := hq9
    replace hw := hw h8 eh8
    refine x_b C (pc' := 11) (L' := [(2, vA r6), (0, vA (some o)), (1, vA p0), (3, vI p2)]) (st' := []) [(.astore_n 2, 1)] ⟨dJ12_add_2_10, rfl⟩ rfl ?_
    refine x_sub C (L' := [(0, vA (some o)), (1, vA p0), (2, vA r6), (3, vI p2)]) [1, 2, 0, 3] rfl ?_
    exact kj2 r6 h8 hw
def wp_J12_add (o : Nat) (p0 : Option Nat) (h : AH) (Q : Int32 → AH → Prop) : Prop :=
  nn h (some o) 23 ∧
  ∀ h2, h2 = h.sfi 2300 o ((h.fi 2300 o) + 1) →
  cl h2 fun mc6 ms7 => wp_J12_add_2 o p0 (h2.fr 2301 o) (h2.fi 2302 o) (h2.srm mc6 ms7) fun h4 => ∀ h5, h5 = h4.srm (h2.rc - mc6) (h2.rs - ms7) →
  Q 1 h5
theorem hd_J12_add : yJ12_add.cls = RJ12 ∧ yJ12_add.cls ≠ "java/lang/invoke/MethodHandle" ∧ yJ12_add.cls ≠ "java/lang/invoke/VarHandle" ∧ (parseMethodDescriptor yJ12_add.desc).map (fun d => d.parameters.length) = some 1 := by decide +kernel
theorem ok_J12_add {l : Launch} {D : va_G} {s0 : S0} (hG : G0 D s0) {o : Nat} {p0 : Option Nat} {h : AH} {Q : Int32 → AH → Prop} (hw : wp_J12_add o p0 h Q) : OKm l D s0 yJ12_add cJ12_add 2 (some .boolean) 6 171 [vA (some o), vA p0] h (QI Q) := by
  refine x_metF hG (by decide +kernel) (own := RJ12) (mn := "add") rfl rfl (L0 := [(0, vA (some o)), (1, vA p0)]) rfl rfl ?_
  intro K C
  unfold wp_J12_add at hw
  refine x_b C (pc' := 2) (L' := [(0, vA (some o)), (1, vA p0)]) (st' := [vA (some o), vA (some o)]) [(.aload_n 0, 1), (.dup, 1)] ⟨dJ12_add_0, dJ12_add_1, rfl⟩ rfl ?_
  have hn1 := hw.1
  replace hw := hw.2
  refine x_getS C 23 0 (pc' := 5) (v := vI (h.fi 2300 o)) dJ12_add_2 rfl rfl rfl q656 q655 rfl hn1 ?_
  refine x_b C (pc' := 7) (L' := [(0, vA (some o)), (1, vA p0)]) (st' := [vI ((h.fi 2300 o) + 1), vA (some o)]) [(.iconst 1, 1), (.iadd, 1)] ⟨dJ12_add_5, dJ12_add_6, rfl⟩ rfl ?_
  refine x_pIS C 23 0 10 dJ12_add_7 rfl rfl rfl rfl q656 q655 (fun _ _ _ => rfl) rfl rfl hn1 (Or.inl rfl) (fun h2 eh2 => ?_)
  replace hw := hw h2 eh2
  refine x_b C (pc' := 13) (L' := [(0, vA (some o)), (1, vA p0)]) (st' := [vA (some o), vA p0, vA (some o)]) [(.aload_n 0, 1), (.aload_n 1, 1), (.aload_n 0, 1)] ⟨dJ12_add_10, dJ12_add_11, dJ12_add_12, rfl⟩ rfl ?_
  refine x_get C 23 1 (pc' := 16) (v := vA (h2.fr 2301 o)) dJ12_add_13 rfl rfl rfl q649 rfl (nn_eq eh2 hn1 rfl) ?_
  refine x_b C (pc' := 17) (L' := [(0, vA (some o)), (1, vA p0)]) (st' := [vA (some o), vA (h2.fr 2301 o), vA p0, vA (some o)]) [(.aload_n 0, 1)] ⟨dJ12_add_16, rfl⟩ rfl ?_
  refine x_get C 23 2 (pc' := 20) (v := vI (h2.fi 2302 o)) dJ12_add_17 rfl rfl rfl q652 rfl (nn_eq eh2 hn1 rfl) ?_
  obtain ⟨mc6, ms7, hle8, hw⟩ := hw
  refine x_cV C 23 23 (mc2 := mc6) (ms2 := ms7) [vA p0, vA (h2.fr 2301 o), vI (h2.fi 2302 o)] [] dJ12_add_20 rfl (ok_J12_add_2 hG hw) hle8 q977 q979 qs15 q175 q980 rfl hd_J12_add_2 ⟨rfl, rfl, rfl⟩ (nn_eq eh2 hn1 rfl) (fun v9 h4 h5 hq9 eh5 => ?_)
  obtain ⟨rfl, hw⟩ := hq9
  replace hw := hw h5 eh5
  refine x_b C (pc' := 24) (L' := [(0, vA (some o)), (1, vA p0)]) (st' := [vI 1]) [(.iconst 1, 1)] ⟨dJ12_add_23, rfl⟩ rfl ?_
  exact x_zret C dJ12_add_24 rfl ⟨_, rfl, hw⟩
def wp_J12_clear (o : Nat) (h : AH) (Q : AH → Prop) : Prop :=
  nn h (some o) 23 ∧
  ∀ h2, h2 = h.sfi 2300 o ((h.fi 2300 o) + 1) →
  ∀ h3, h3 = h2.sfi 2302 o (0) →
  xlp (σ := Int32) (fun s4 T5 k4 =>
  (((h2.fi 2302 o) ≤ s4 →
  Q T5) ∧ (¬ (h2.fi 2302 o) ≤ s4 →
  ix T5 (h2.fr 2301 o) 44 s4 ∧
  sto T5 none 44 ∧
  ∀ h7, h7 = T5.sar (adr (h2.fr 2301 o)) (ni s4) none →
  k4 (s4 + 1) h7))) 0 h3
theorem hd_J12_clear : yJ12_clear.cls = RJ12 ∧ yJ12_clear.cls ≠ "java/lang/invoke/MethodHandle" ∧ yJ12_clear.cls ≠ "java/lang/invoke/VarHandle" ∧ (parseMethodDescriptor yJ12_clear.desc).map (fun d => d.parameters.length) = some 0 := by decide +kernel
theorem ok_J12_clear {l : Launch} {D : va_G} {s0 : S0} (hG : G0 D s0) {o : Nat} {h : AH} {Q : AH → Prop} (hw : wp_J12_clear o h Q) : OKm l D s0 yJ12_clear cJ12_clear 4 none 0 0 [vA (some o)] h (QV Q) := by
  refine x_metF hG (by decide +kernel) (own := RJ12) (mn := "clear") rfl rfl (L0 := [(0, vA (some o))]) rfl rfl ?_
  intro K C
  unfold wp_J12_clear at hw
  refine x_b C (pc' := 2) (L' := [(0, vA (some o))]) (st' := [vA (some o), vA (some o)]) [(.aload_n 0, 1), (.dup, 1)] ⟨dJ12_clear_0, dJ12_clear_1, rfl⟩ rfl ?_
  have hn1 := hw.1
  replace hw := hw.2
  refine x_getS C 23 0 (pc' := 5) (v := vI (h.fi 2300 o)) dJ12_clear_2 rfl rfl rfl q656 q655 rfl hn1 ?_
  refine x_b C (pc' := 7) (L' := [(0, vA (some o))]) (st' := [vI ((h.fi 2300 o) + 1), vA (some o)]) [(.iconst 1, 1), (.iadd, 1)] ⟨dJ12_clear_5, dJ12_clear_6, rfl⟩ rfl ?_
  refine x_pIS C 23 0 10 dJ12_clear_7 rfl rfl rfl rfl q656 q655 (fun _ _ _ => rfl) rfl rfl hn1 (Or.inl rfl) (fun h2 eh2 => ?_)
  replace hw := hw h2 eh2
  refine x_b C (pc' := 11) (L' := [(0, vA (some o))]) (st' := [vA (some o)]) [(.aload_n 0, 1)] ⟨dJ12_clear_10, rfl⟩ rfl ?_
  refine x_get C 23 1 (pc' := 14) (v := vA (h2.fr 2301 o)) dJ12_clear_11 rfl rfl rfl q649 rfl (nn_eq eh2 hn1 rfl) ?_
  refine x_b C (pc' := 16) (L' := [(1, vA (h2.fr 2301 o)), (0, vA (some o))]) (st' := [vA (some o)]) [(.astore_n 1, 1), (.aload_n 0, 1)] ⟨dJ12_clear_14, dJ12_clear_15, rfl⟩ rfl ?_
  refine x_get C 23 2 (pc' := 19) (v := vI (h2.fi 2302 o)) dJ12_clear_16 rfl rfl rfl q652 rfl (nn_eq eh2 hn1 rfl) ?_
  refine x_b C (pc' := 23) (L' := [(2, vI (h2.fi 2302 o)), (1, vA (h2.fr 2301 o)), (0, vA (some o))]) (st' := [vI 0, vA (some o), vI 0]) [(.istore_n 2, 1), (.aload_n 0, 1), (.iconst 0, 1), (.dup_x1, 1)] ⟨dJ12_clear_19, dJ12_clear_20, dJ12_clear_21, dJ12_clear_22, rfl⟩ rfl ?_
  refine x_pI C 23 2 26 dJ12_clear_23 rfl rfl rfl rfl q652 (fun _ _ _ => rfl) rfl rfl (nn_eq eh2 hn1 rfl) (Or.inl rfl) (fun h3 eh3 => ?_)
  replace hw := hw h3 eh3
  refine x_b C (pc' := 27) (L' := [(3, vI 0), (2, vI (h2.fi 2302 o)), (1, vA (h2.fr 2301 o)), (0, vA (some o))]) (st' := []) [(.istore_n 3, 1)] ⟨dJ12_clear_26, rfl⟩ rfl ?_
  obtain ⟨I4, ⟨n4, hI4⟩, hB4⟩ := xlp.out hw
  refine x_sub C (L' := [(1, vA (h2.fr 2301 o)), (2, vI (h2.fi 2302 o)), (3, vI 0)]) [2, 1, 0] rfl ?_
  have key4 : ∀ (n : Nat) (s4 : Int32) (T5 : AH), I4 n s4 T5 → K 27 [(1, vA (h2.fr 2301 o)), (2, vI (h2.fi 2302 o)), (3, vI s4)] [] T5 := by
    intro n
    induction n using Nat.strongRecOn with
    | ind n ih4 =>
      intro s4 T5 hI
      replace hw := hB4 n s4 T5 hI
      refine x_b C (pc' := 29) (L' := [(1, vA (h2.fr 2301 o)), (2, vI (h2.fi 2302 o)), (3, vI s4)]) (st' := [vI (h2.fi 2302 o), vI s4]) [(.iload_n 3, 1), (.iload_n 2, 1)] ⟨dJ12_clear_27, dJ12_clear_28, rfl⟩ rfl ?_
      refine x_icmp_ge C 42 32 dJ12_clear_29 rfl rfl (fun hc6 => ?_) (fun hc6 => ?_)
      · replace hw := hw.1 hc6
        exact x_vret C dJ12_clear_42 ⟨rfl, hw⟩
      · replace hw := hw.2 hc6
        refine x_b C (pc' := 35) (L' := [(1, vA (h2.fr 2301 o)), (2, vI (h2.fi 2302 o)), (3, vI s4)]) (st' := [vA none, vI s4, vA (h2.fr 2301 o)]) [(.aload_n 1, 1), (.iload_n 3, 1), (.aconst_null, 1)] ⟨dJ12_clear_32, dJ12_clear_33, dJ12_clear_34, rfl⟩ rfl ?_
        refine x_aast C 44 36 dJ12_clear_35 rfl rfl rfl hw.1 hw.2.1 (fun h7 eh7 => ?_)
        replace hw := hw.2.2 h7 eh7
        refine x_b C (pc' := 39) (L' := [(3, vI (s4 + 1)), (1, vA (h2.fr 2301 o)), (2, vI (h2.fi 2302 o))]) (st' := []) [(.iinc 3 1, 3)] ⟨dJ12_clear_36, rfl⟩ rfl ?_
        refine x_goto C 27 dJ12_clear_39 rfl ?_
        refine x_sub C (L' := [(1, vA (h2.fr 2301 o)), (2, vI (h2.fi 2302 o)), (3, vI (s4 + 1))]) [1, 2, 0] rfl ?_
        obtain ⟨m9, hm9, hw⟩ := hw
        exact ih4 m9 hm9 (s4 + 1) h7 hw
  exact key4 n4 0 h3 hI4
def wp_J21_equals (o : Nat) (p0 : Option Nat) (h : AH) (Q : Int32 → AH → Prop) : Prop :=
  ∀ m1 : Int32, m1 = (if some o = p0 then 1 else 0) →
  bz m1 ∧ Q m1 h
theorem hd_J21_equals : yJ21_equals.cls = RJ21 ∧ yJ21_equals.cls ≠ "java/lang/invoke/MethodHandle" ∧ yJ21_equals.cls ≠ "java/lang/invoke/VarHandle" ∧ (parseMethodDescriptor yJ21_equals.desc).map (fun d => d.parameters.length) = some 1 := by decide +kernel
theorem ok_J21_equals {l : Launch} {D : va_G} {s0 : S0} (hG : G0 D s0) {o : Nat} {p0 : Option Nat} {h : AH} {Q : Int32 → AH → Prop} (hw : wp_J21_equals o p0 h Q) : OKm l D s0 yJ21_equals cJ21_equals 2 (some .boolean) 0 0 [vA (some o), vA p0] h (QI Q) := by
  refine x_metF hG (by decide +kernel) (own := RJ21) (mn := "equals") rfl rfl (L0 := [(0, vA (some o)), (1, vA p0)]) rfl rfl ?_
  intro K C
  unfold wp_J21_equals at hw
  refine x_b C (pc' := 2) (L' := [(0, vA (some o)), (1, vA p0)]) (st' := [vA p0, vA (some o)]) [(.aload_n 0, 1), (.aload_n 1, 1)] ⟨dJ21_equals_0, dJ21_equals_1, rfl⟩ rfl ?_
  have kj2 : ∀ (m1 : Int32), m1 = (if some o = p0 then 1 else 0) → K 10 [] [vI m1] h := by
    intro m1 em1
    replace hw := hw m1 em1
    exact x_zret C dJ21_equals_10 (bz_n hw.1) ⟨_, rfl, hw.2⟩
  refine x_acmp_ne C 9 5 dJ21_equals_2 rfl rfl (fun hc3 => ?_) (fun hc3 => ?_)
  · refine x_b C (pc' := 10) (L' := [(0, vA (some o)), (1, vA p0)]) (st' := [vI 0]) [(.iconst 0, 1)] ⟨dJ21_equals_9, rfl⟩ rfl ?_
    refine x_sub C (L' := []) [] rfl ?_
    exact kj2 _ ((if_neg hc3).symm)
  · refine x_b C (pc' := 6) (L' := [(0, vA (some o)), (1, vA p0)]) (st' := [vI 1]) [(.iconst 1, 1)] ⟨dJ21_equals_5, rfl⟩ rfl ?_
    refine x_goto C 10 dJ21_equals_6 rfl ?_
    refine x_sub C (L' := []) [] rfl ?_
    exact kj2 _ ((if_pos hc3).symm)
def wp_J7_equals (p0 : Option Nat) (p1 : Option Nat) (h : AH) (Q : Int32 → AH → Prop) : Prop :=
  nn h p0 41 ∧
  nn h p1 41 ∧
  (((nI (h.kd (adr p0)).2) = (nI (h.kd (adr p1)).2) →
  xlp (σ := Int32) (fun s4 T5 k4 =>
  nn T5 p0 41 ∧
  (((nI (T5.kd (adr p0)).2) ≤ s4 →
  Q 1 T5) ∧ (¬ (nI (T5.kd (adr p0)).2) ≤ s4 →
  ix T5 p0 41 s4 ∧
  ix T5 p1 41 s4 ∧
  (((T5.ai (adr p0) (ni s4)) = (T5.ai (adr p1) (ni s4)) →
  k4 (s4 + 1) T5) ∧ (¬ (T5.ai (adr p0) (ni s4)) = (T5.ai (adr p1) (ni s4)) →
  Q 0 T5))))) 0 h) ∧ (¬ (nI (h.kd (adr p0)).2) = (nI (h.kd (adr p1)).2) →
  Q 0 h))
theorem hd_J7_equals : yJ7_equals.cls ≠ "java/lang/invoke/MethodHandle" ∧ yJ7_equals.cls ≠ "java/lang/invoke/VarHandle" ∧ (parseMethodDescriptor yJ7_equals.desc).map (fun d => d.parameters.length) = some 2 := by decide +kernel
theorem ok_J7_equals {l : Launch} {D : va_G} {s0 : S0} (hG : G0 D s0) {p0 : Option Nat} {p1 : Option Nat} {h : AH} {Q : Int32 → AH → Prop} (hw : wp_J7_equals p0 p1 h Q) : OKm l D s0 yJ7_equals cJ7_equals 3 (some .boolean) 0 0 [vA p0, vA p1] h (QI Q) := by
  refine x_metF hG (by decide +kernel) (own := RJ7) (mn := "equals") rfl rfl (L0 := [(0, vA p0), (1, vA p1)]) rfl rfl ?_
  intro K C
  unfold wp_J7_equals at hw
  refine x_b C (pc' := 1) (L' := [(0, vA p0), (1, vA p1)]) (st' := [vA p0]) [(.aload_n 0, 1)] ⟨dJ7_equals_0, rfl⟩ rfl ?_
  have hn1 := hw.1
  replace hw := hw.2
  refine x_alen C 41 2 dJ7_equals_1 rfl rfl hn1 ?_
  refine x_b C (pc' := 3) (L' := [(0, vA p0), (1, vA p1)]) (st' := [vA p1, vI (nI (h.kd (adr p0)).2)]) [(.aload_n 1, 1)] ⟨dJ7_equals_2, rfl⟩ rfl ?_
  have hn2 := hw.1
  replace hw := hw.2
  refine x_alen C 41 4 dJ7_equals_3 rfl rfl hn2 ?_
  refine x_icmp_ne C 34 7 dJ7_equals_4 rfl rfl (fun hc3 => ?_) (fun hc3 => ?_)
  · replace hw := hw.2 hc3
    refine x_b C (pc' := 35) (L' := [(0, vA p0), (1, vA p1)]) (st' := [vI 0]) [(.iconst 0, 1)] ⟨dJ7_equals_34, rfl⟩ rfl ?_
    exact x_zret C dJ7_equals_35 rfl ⟨_, rfl, hw⟩
  · replace hw := hw.1 hc3
    refine x_b C (pc' := 9) (L' := [(2, vI 0), (0, vA p0), (1, vA p1)]) (st' := []) [(.iconst 0, 1), (.istore_n 2, 1)] ⟨dJ7_equals_7, dJ7_equals_8, rfl⟩ rfl ?_
    obtain ⟨I4, ⟨n4, hI4⟩, hB4⟩ := xlp.out hw
    refine x_sub C (L' := [(0, vA p0), (1, vA p1), (2, vI 0)]) [1, 2, 0] rfl ?_
    have key4 : ∀ (n : Nat) (s4 : Int32) (T5 : AH), I4 n s4 T5 → K 9 [(0, vA p0), (1, vA p1), (2, vI s4)] [] T5 := by
      intro n
      induction n using Nat.strongRecOn with
      | ind n ih4 =>
        intro s4 T5 hI
        replace hw := hB4 n s4 T5 hI
        refine x_b C (pc' := 11) (L' := [(0, vA p0), (1, vA p1), (2, vI s4)]) (st' := [vA p0, vI s4]) [(.iload_n 2, 1), (.aload_n 0, 1)] ⟨dJ7_equals_9, dJ7_equals_10, rfl⟩ rfl ?_
        have hn6 := hw.1
        replace hw := hw.2
        refine x_alen C 41 12 dJ7_equals_11 rfl rfl hn6 ?_
        refine x_icmp_ge C 32 15 dJ7_equals_12 rfl rfl (fun hc7 => ?_) (fun hc7 => ?_)
        · replace hw := hw.1 hc7
          refine x_b C (pc' := 33) (L' := [(0, vA p0), (1, vA p1), (2, vI s4)]) (st' := [vI 1]) [(.iconst 1, 1)] ⟨dJ7_equals_32, rfl⟩ rfl ?_
          exact x_zret C dJ7_equals_33 rfl ⟨_, rfl, hw⟩
        · replace hw := hw.2 hc7
          refine x_b C (pc' := 17) (L' := [(0, vA p0), (1, vA p1), (2, vI s4)]) (st' := [vI s4, vA p0]) [(.aload_n 0, 1), (.iload_n 2, 1)] ⟨dJ7_equals_15, dJ7_equals_16, rfl⟩ rfl ?_
          refine x_bald C 18 dJ7_equals_17 rfl hw.1 ?_
          replace hw := hw.2
          refine x_b C (pc' := 20) (L' := [(0, vA p0), (1, vA p1), (2, vI s4)]) (st' := [vI s4, vA p1, vI (T5.ai (adr p0) (ni s4))]) [(.aload_n 1, 1), (.iload_n 2, 1)] ⟨dJ7_equals_18, dJ7_equals_19, rfl⟩ rfl ?_
          refine x_bald C 21 dJ7_equals_20 rfl hw.1 ?_
          replace hw := hw.2
          refine x_icmp_eq C 26 24 dJ7_equals_21 rfl rfl (fun hc8 => ?_) (fun hc8 => ?_)
          · replace hw := hw.1 hc8
            refine x_b C (pc' := 29) (L' := [(2, vI (s4 + 1)), (0, vA p0), (1, vA p1)]) (st' := []) [(.iinc 2 1, 3)] ⟨dJ7_equals_26, rfl⟩ rfl ?_
            refine x_goto C 9 dJ7_equals_29 rfl ?_
            refine x_sub C (L' := [(0, vA p0), (1, vA p1), (2, vI (s4 + 1))]) [1, 2, 0] rfl ?_
            obtain ⟨m9, hm9, hw⟩ := hw
            exact ih4 m9 hm9 (s4 + 1) T5 hw
          · replace hw := hw.2 hc8
            refine x_b C (pc' := 25) (L' := [(0, vA p0), (1, vA p1), (2, vI s4)]) (st' := [vI 0]) [(.iconst 0, 1)] ⟨dJ7_equals_24, rfl⟩ rfl ?_
            exact x_zret C dJ7_equals_25 rfl ⟨_, rfl, hw⟩
    exact key4 n4 0 h hI4
def wp_J2_equals (o : Nat) (p0 : Option Nat) (h : AH) (Q : Int32 → AH → Prop) : Prop :=
  ((some o = p0 →
  Q 1 h) ∧ (¬ some o = p0 →
  nn h p0 22 ∧
  ca h p0 22 ∧
  nn h (some o) 22 ∧
  (((h.fi 2201 o) = (h.fi 2201 (adr p0)) →
  wp_J7_equals (h.fr 2200 o) (h.fr 2200 (adr p0)) (h.srm 0 0) fun r5 h6 => ∀ h7, h7 = h6.srm h.rc h.rs →
  ∀ m8 : Int32, m8 = (if r5 = 0 then 0 else 1) →
  bz m8 ∧ Q m8 h7) ∧ (¬ (h.fi 2201 o) = (h.fi 2201 (adr p0)) →
  Q 0 h))))
theorem hd_J2_equals : yJ2_equals.cls = RJ2 ∧ yJ2_equals.cls ≠ "java/lang/invoke/MethodHandle" ∧ yJ2_equals.cls ≠ "java/lang/invoke/VarHandle" ∧ (parseMethodDescriptor yJ2_equals.desc).map (fun d => d.parameters.length) = some 1 := by decide +kernel
theorem ok_J2_equals {l : Launch} {D : va_G} {s0 : S0} (hG : G0 D s0) {o : Nat} {p0 : Option Nat} {h : AH} {Q : Int32 → AH → Prop} (hw : wp_J2_equals o p0 h Q) : OKm l D s0 yJ2_equals cJ2_equals 3 (some .boolean) 1 60 [vA (some o), vA p0] h (QI Q) := by
  refine x_metF hG (by decide +kernel) (own := RJ2) (mn := "equals") rfl rfl (L0 := [(0, vA (some o)), (1, vA p0)]) rfl rfl ?_
  intro K C
  unfold wp_J2_equals at hw
  refine x_b C (pc' := 2) (L' := [(0, vA (some o)), (1, vA p0)]) (st' := [vA p0, vA (some o)]) [(.aload_n 0, 1), (.aload_n 1, 1)] ⟨dJ2_equals_0, dJ2_equals_1, rfl⟩ rfl ?_
  refine x_acmp_ne C 7 5 dJ2_equals_2 rfl rfl (fun hc1 => ?_) (fun hc1 => ?_)
  · replace hw := hw.2 hc1
    refine x_b C (pc' := 8) (L' := [(0, vA (some o)), (1, vA p0)]) (st' := [vA p0]) [(.aload_n 1, 1)] ⟨dJ2_equals_7, rfl⟩ rfl ?_
    have hn2 := hw.1
    replace hw := hw.2
    refine x_inst C 22 11 dJ2_equals_8 rfl rfl q701 hn2 ?_
    refine x_if_eq C 54 14 dJ2_equals_11 rfl rfl (fun hc => absurd hc (by decide)) (fun _ => ?_)
    refine x_b C (pc' := 15) (L' := [(0, vA (some o)), (1, vA p0)]) (st' := [vA p0]) [(.aload_n 1, 1)] ⟨dJ2_equals_14, rfl⟩ rfl ?_
    refine x_cast C 22 18 dJ2_equals_15 rfl rfl q701 hw.1 ?_
    replace hw := hw.2
    refine x_b C (pc' := 19) (L' := [(2, vA p0), (0, vA (some o)), (1, vA p0)]) (st' := []) [(.astore_n 2, 1)] ⟨dJ2_equals_18, rfl⟩ rfl ?_
    refine x_gets C 22 (v := vI 1) dJ2_equals_19 rfl z_cs q487 ?_
    refine x_if_eq C 36 25 dJ2_equals_22 rfl rfl (fun hc => absurd hc (by decide)) (fun _ => ?_)
    refine x_b C (pc' := 26) (L' := [(2, vA p0), (0, vA (some o)), (1, vA p0)]) (st' := [vA (some o)]) [(.aload_n 0, 1)] ⟨dJ2_equals_25, rfl⟩ rfl ?_
    have hn3 := hw.1
    replace hw := hw.2
    refine x_get C 22 1 (pc' := 29) (v := vI (h.fi 2201 o)) dJ2_equals_26 rfl rfl rfl q502 rfl hn3 ?_
    refine x_b C (pc' := 30) (L' := [(2, vA p0), (0, vA (some o)), (1, vA p0)]) (st' := [vA p0, vI (h.fi 2201 o)]) [(.aload_n 2, 1)] ⟨dJ2_equals_29, rfl⟩ rfl ?_
    refine x_get C 22 1 (pc' := 33) (v := vI (h.fi 2201 (adr p0))) dJ2_equals_30 rfl rfl rfl q502 rfl hn2 ?_
    refine x_icmp_ne C 54 36 dJ2_equals_33 rfl rfl (fun hc4 => ?_) (fun hc4 => ?_)
    · replace hw := hw.2 hc4
      refine x_b C (pc' := 55) (L' := [(2, vA p0), (0, vA (some o)), (1, vA p0)]) (st' := [vI 0]) [(.iconst 0, 1)] ⟨dJ2_equals_54, rfl⟩ rfl ?_
      exact x_zret C dJ2_equals_55 rfl ⟨_, rfl, hw⟩
    · replace hw := hw.1 hc4
      refine x_b C (pc' := 37) (L' := [(2, vA p0), (0, vA (some o)), (1, vA p0)]) (st' := [vA (some o)]) [(.aload_n 0, 1)] ⟨dJ2_equals_36, rfl⟩ rfl ?_
      refine x_get C 22 0 (pc' := 40) (v := vA (h.fr 2200 o)) dJ2_equals_37 rfl rfl rfl q501 rfl hn3 ?_
      refine x_b C (pc' := 41) (L' := [(2, vA p0), (0, vA (some o)), (1, vA p0)]) (st' := [vA p0, vA (h.fr 2200 o)]) [(.aload_n 2, 1)] ⟨dJ2_equals_40, rfl⟩ rfl ?_
      refine x_get C 22 0 (pc' := 44) (v := vA (h.fr 2200 (adr p0))) dJ2_equals_41 rfl rfl rfl q501 rfl hn2 ?_
      refine x_cS C 47 (mc2 := 0) (ms2 := 0) [vA (h.fr 2200 o), vA (h.fr 2200 (adr p0))] [] dJ2_equals_44 rfl (ok_J7_equals hG hw) ⟨Nat.zero_le _, Nat.zero_le _⟩ q702 q703 q169 q704 hd_J7_equals ⟨rfl, rfl, rfl⟩ (fun v9 h6 h7 hq9 eh7 => ?_)
      obtain ⟨r5, rfl, hw⟩ := hq9
      replace hw := hw h7 eh7
      have kj9 : ∀ (m8 : Int32), m8 = (if r5 = 0 then 0 else 1) → K 55 [] [vI m8] h7 := by
        intro m8 em8
        replace hw := hw m8 em8
        exact x_zret C dJ2_equals_55 (bz_n hw.1) ⟨_, rfl, hw.2⟩
      refine x_if_eq C 54 50 dJ2_equals_47 rfl rfl (fun hc10 => ?_) (fun hc10 => ?_)
      · refine x_b C (pc' := 55) (L' := [(2, vA p0), (0, vA (some o)), (1, vA p0)]) (st' := [vI 0]) [(.iconst 0, 1)] ⟨dJ2_equals_54, rfl⟩ rfl ?_
        refine x_sub C (L' := []) [] rfl ?_
        exact kj9 _ ((if_pos hc10).symm)
      · refine x_b C (pc' := 51) (L' := [(2, vA p0), (0, vA (some o)), (1, vA p0)]) (st' := [vI 1]) [(.iconst 1, 1)] ⟨dJ2_equals_50, rfl⟩ rfl ?_
        refine x_goto C 55 dJ2_equals_51 rfl ?_
        refine x_sub C (L' := []) [] rfl ?_
        exact kj9 _ ((if_neg hc10).symm)
  · replace hw := hw.1 hc1
    refine x_b C (pc' := 6) (L' := [(0, vA (some o)), (1, vA p0)]) (st' := [vI 1]) [(.iconst 1, 1)] ⟨dJ2_equals_5, rfl⟩ rfl ?_
    exact x_zret C dJ2_equals_6 rfl ⟨_, rfl, hw⟩
theorem hx_java_lang_Object_equals : ("java/lang/Object" : String) ≠ "java/lang/invoke/MethodHandle" ∧ ("java/lang/Object" : String) ≠ "java/lang/invoke/VarHandle" ∧ (parseMethodDescriptor "(Ljava/lang/Object;)Z").map (fun d => d.parameters.length) = some 1 := by decide +kernel
def wp_J12_indexOfRange (o : Nat) (p0 : Option Nat) (p1 : Int32) (p2 : Int32) (h : AH) (Q : Int32 → AH → Prop) : Prop :=
  nn h (some o) 23 ∧
  ((p0 = none →
  xlp (σ := Int32) (fun s18 T19 k18 =>
  ((p2 ≤ s18 →
  Q (-1) T19) ∧ (¬ p2 ≤ s18 →
  ix T19 (h.fr 2301 o) 44 s18 ∧
  (((T19.ar (adr (h.fr 2301 o)) (ni s18)) = none →
  Q s18 T19) ∧ (¬ (T19.ar (adr (h.fr 2301 o)) (ni s18)) = none →
  k18 (s18 + 1) T19))))) p1 h) ∧ (¬ p0 = none →
  xlp (σ := Int32) (fun s3 T4 k3 =>
  ((p2 ≤ s3 →
  Q (-1) T4) ∧ (¬ p2 ≤ s3 →
  ix T4 (h.fr 2301 o) 44 s3 ∧
  xjn (α := Int32) (fun J6 =>
  ((nn T4 p0 22 ∧
  wp_J2_equals (adr p0) (T4.ar (adr (h.fr 2301 o)) (ni s3)) (T4.srm 0 0) fun r12 h13 => ∀ h14, h14 = h13.srm T4.rc T4.rs →
  J6 r12 h14) ∨
   (nn T4 p0 6 ∧
  J6 (if p0 = (T4.ar (adr (h.fr 2301 o)) (ni s3)) then 1 else 0) T4) ∨
   (nn T4 p0 7 ∧
  J6 (if p0 = (T4.ar (adr (h.fr 2301 o)) (ni s3)) then 1 else 0) T4) ∨
   (nn T4 p0 15 ∧
  J6 (if p0 = (T4.ar (adr (h.fr 2301 o)) (ni s3)) then 1 else 0) T4))) (fun r8 h9 =>
  ((r8 = 0 →
  k3 (s3 + 1) h9) ∧ (¬ r8 = 0 →
  Q s3 h9)))))) p1 h))
theorem hd_J12_indexOfRange : yJ12_indexOfRange.cls = RJ12 ∧ yJ12_indexOfRange.cls ≠ "java/lang/invoke/MethodHandle" ∧ yJ12_indexOfRange.cls ≠ "java/lang/invoke/VarHandle" ∧ (parseMethodDescriptor yJ12_indexOfRange.desc).map (fun d => d.parameters.length) = some 3 := by decide +kernel
theorem ok_J12_indexOfRange {l : Launch} {D : va_G} {s0 : S0} (hG : G0 D s0) {o : Nat} {p0 : Option Nat} {p1 : Int32} {p2 : Int32} {h : AH} {Q : Int32 → AH → Prop} (hw : wp_J12_indexOfRange o p0 p1 p2 h Q) : OKm l D s0 yJ12_indexOfRange cJ12_indexOfRange 6 (some .int) 2 82 [vA (some o), vA p0, vI p1, vI p2] h (QI Q) := by
  refine x_metF hG (by decide +kernel) (own := RJ12) (mn := "indexOfRange") rfl rfl (L0 := [(0, vA (some o)), (1, vA p0), (2, vI p1), (3, vI p2)]) rfl rfl ?_
  intro K C
  unfold wp_J12_indexOfRange at hw
  refine x_b C (pc' := 1) (L' := [(0, vA (some o)), (1, vA p0), (2, vI p1), (3, vI p2)]) (st' := [vA (some o)]) [(.aload_n 0, 1)] ⟨dJ12_indexOfRange_0, rfl⟩ rfl ?_
  have hn1 := hw.1
  replace hw := hw.2
  refine x_get C 23 1 (pc' := 4) (v := vA (h.fr 2301 o)) dJ12_indexOfRange_1 rfl rfl rfl q649 rfl hn1 ?_
  refine x_b C (pc' := 7) (L' := [(4, vA (h.fr 2301 o)), (0, vA (some o)), (1, vA p0), (2, vI p1), (3, vI p2)]) (st' := [vA p0]) [(.astore 4, 2), (.aload_n 1, 1)] ⟨dJ12_indexOfRange_4, dJ12_indexOfRange_6, rfl⟩ rfl ?_
  refine x_ifnonnull C 39 10 dJ12_indexOfRange_7 rfl rfl (fun hc2 => ?_) (fun hc2 => ?_)
  · replace hw := hw.2 hc2
    refine x_b C (pc' := 42) (L' := [(5, vI p1), (4, vA (h.fr 2301 o)), (0, vA (some o)), (1, vA p0), (2, vI p1), (3, vI p2)]) (st' := []) [(.iload_n 2, 1), (.istore 5, 2)] ⟨dJ12_indexOfRange_39, dJ12_indexOfRange_40, rfl⟩ rfl ?_
    obtain ⟨I3, ⟨n3, hI3⟩, hB3⟩ := xlp.out hw
    refine x_sub C (L' := [(1, vA p0), (3, vI p2), (4, vA (h.fr 2301 o)), (5, vI p1)]) [3, 5, 1, 0] rfl ?_
    have key3 : ∀ (n : Nat) (s3 : Int32) (T4 : AH), I3 n s3 T4 → K 42 [(1, vA p0), (3, vI p2), (4, vA (h.fr 2301 o)), (5, vI s3)] [] T4 := by
      intro n
      induction n using Nat.strongRecOn with
      | ind n ih3 =>
        intro s3 T4 hI
        replace hw := hB3 n s3 T4 hI
        refine x_b C (pc' := 45) (L' := [(1, vA p0), (3, vI p2), (4, vA (h.fr 2301 o)), (5, vI s3)]) (st' := [vI p2, vI s3]) [(.iload 5, 2), (.iload_n 3, 1)] ⟨dJ12_indexOfRange_42, dJ12_indexOfRange_44, rfl⟩ rfl ?_
        refine x_icmp_ge C 69 48 dJ12_indexOfRange_45 rfl rfl (fun hc5 => ?_) (fun hc5 => ?_)
        · replace hw := hw.1 hc5
          refine x_b C (pc' := 70) (L' := [(1, vA p0), (3, vI p2), (4, vA (h.fr 2301 o)), (5, vI s3)]) (st' := [vI (-1)]) [(.iconst (-1), 1)] ⟨dJ12_indexOfRange_69, rfl⟩ rfl ?_
          exact x_iret C dJ12_indexOfRange_70 ⟨_, rfl, hw⟩
        · replace hw := hw.2 hc5
          refine x_b C (pc' := 53) (L' := [(1, vA p0), (3, vI p2), (4, vA (h.fr 2301 o)), (5, vI s3)]) (st' := [vI s3, vA (h.fr 2301 o), vA p0]) [(.aload_n 1, 1), (.aload 4, 2), (.iload 5, 2)] ⟨dJ12_indexOfRange_48, dJ12_indexOfRange_49, dJ12_indexOfRange_51, rfl⟩ rfl ?_
          refine x_aald C 44 54 dJ12_indexOfRange_53 rfl rfl ⟨rfl, fun _ _ => rfl⟩ hw.1 ?_
          replace hw := hw.2
          obtain ⟨J6, hw, hJ6⟩ := xjn.out hw
          have kj7 : ∀ (r8 : Int32) (h9 : AH), J6 r8 h9 → K 57 [(1, vA p0), (3, vI p2), (4, vA (h.fr 2301 o)), (5, vI s3)] [vI r8] h9 := by
            intro r8 h9 hj9
            replace hw := hJ6 r8 h9 hj9
            refine x_if_eq C 63 60 dJ12_indexOfRange_57 rfl rfl (fun hc10 => ?_) (fun hc10 => ?_)
            · replace hw := hw.1 hc10
              refine x_b C (pc' := 66) (L' := [(5, vI (s3 + 1)), (1, vA p0), (3, vI p2), (4, vA (h.fr 2301 o))]) (st' := []) [(.iinc 5 1, 3)] ⟨dJ12_indexOfRange_63, rfl⟩ rfl ?_
              refine x_goto C 42 dJ12_indexOfRange_66 rfl ?_
              refine x_sub C (L' := [(1, vA p0), (3, vI p2), (4, vA (h.fr 2301 o)), (5, vI (s3 + 1))]) [1, 2, 3, 0] rfl ?_
              obtain ⟨m9, hm9, hw⟩ := hw
              exact ih3 m9 hm9 (s3 + 1) h9 hw
            · replace hw := hw.2 hc10
              refine x_b C (pc' := 62) (L' := [(1, vA p0), (3, vI p2), (4, vA (h.fr 2301 o)), (5, vI s3)]) (st' := [vI s3]) [(.iload 5, 2)] ⟨dJ12_indexOfRange_60, rfl⟩ rfl ?_
              exact x_iret C dJ12_indexOfRange_62 ⟨_, rfl, hw⟩
          rcases hw with hw | hw | hw | hw
          · have hn11 := hw.1
            replace hw := hw.2
            refine x_cU C 22 57 (x := ⟨"java/lang/Object", "equals", "(Ljava/lang/Object;)Z"⟩) (mc2 := 0) (ms2 := 0) [vA (T4.ar (adr (h.fr 2301 o)) (ni s3))] [] dJ12_indexOfRange_54 rfl (ok_J2_equals hG hw) ⟨Nat.zero_le _, Nat.zero_le _⟩ q938 q940 q969 q698 q163 q700 (Or.inr (Or.inl q937)) rfl hx_java_lang_Object_equals ⟨rfl, rfl, rfl⟩ hn11 (fun v9 h13 h14 hq9 eh14 => ?_)
            obtain ⟨r12, rfl, hw⟩ := hq9
            exact kj7 r12 h14 (hw h14 eh14)
          · have hn15 := hw.1
            replace hw := hw.2
            refine x_eqO C 6 57 [] dJ12_indexOfRange_54 rfl q938 q939 q954 q972 rfl ⟨rfl, rfl, rfl⟩ hn15 ?_
            exact kj7 _ _ hw
          · have hn16 := hw.1
            replace hw := hw.2
            refine x_eqO C 7 57 [] dJ12_indexOfRange_54 rfl q938 q939 q950 q972 rfl ⟨rfl, rfl, rfl⟩ hn16 ?_
            exact kj7 _ _ hw
          · have hn17 := hw.1
            replace hw := hw.2
            refine x_eqO C 15 57 [] dJ12_indexOfRange_54 rfl q938 q939 q945 q972 rfl ⟨rfl, rfl, rfl⟩ hn17 ?_
            exact kj7 _ _ hw
    exact key3 n3 p1 h hI3
  · replace hw := hw.1 hc2
    refine x_b C (pc' := 13) (L' := [(5, vI p1), (4, vA (h.fr 2301 o)), (0, vA (some o)), (1, vA p0), (2, vI p1), (3, vI p2)]) (st' := []) [(.iload_n 2, 1), (.istore 5, 2)] ⟨dJ12_indexOfRange_10, dJ12_indexOfRange_11, rfl⟩ rfl ?_
    obtain ⟨I18, ⟨n18, hI18⟩, hB18⟩ := xlp.out hw
    refine x_sub C (L' := [(3, vI p2), (4, vA (h.fr 2301 o)), (5, vI p1)]) [5, 1, 0] rfl ?_
    have key18 : ∀ (n : Nat) (s18 : Int32) (T19 : AH), I18 n s18 T19 → K 13 [(3, vI p2), (4, vA (h.fr 2301 o)), (5, vI s18)] [] T19 := by
      intro n
      induction n using Nat.strongRecOn with
      | ind n ih18 =>
        intro s18 T19 hI
        replace hw := hB18 n s18 T19 hI
        refine x_b C (pc' := 16) (L' := [(3, vI p2), (4, vA (h.fr 2301 o)), (5, vI s18)]) (st' := [vI p2, vI s18]) [(.iload 5, 2), (.iload_n 3, 1)] ⟨dJ12_indexOfRange_13, dJ12_indexOfRange_15, rfl⟩ rfl ?_
        refine x_icmp_ge C 36 19 dJ12_indexOfRange_16 rfl rfl (fun hc20 => ?_) (fun hc20 => ?_)
        · replace hw := hw.1 hc20
          refine x_goto C 69 dJ12_indexOfRange_36 rfl ?_
          refine x_b C (pc' := 70) (L' := [(3, vI p2), (4, vA (h.fr 2301 o)), (5, vI s18)]) (st' := [vI (-1)]) [(.iconst (-1), 1)] ⟨dJ12_indexOfRange_69, rfl⟩ rfl ?_
          exact x_iret C dJ12_indexOfRange_70 ⟨_, rfl, hw⟩
        · replace hw := hw.2 hc20
          refine x_b C (pc' := 23) (L' := [(3, vI p2), (4, vA (h.fr 2301 o)), (5, vI s18)]) (st' := [vI s18, vA (h.fr 2301 o)]) [(.aload 4, 2), (.iload 5, 2)] ⟨dJ12_indexOfRange_19, dJ12_indexOfRange_21, rfl⟩ rfl ?_
          refine x_aald C 44 24 dJ12_indexOfRange_23 rfl rfl ⟨rfl, fun _ _ => rfl⟩ hw.1 ?_
          replace hw := hw.2
          refine x_ifnonnull C 30 27 dJ12_indexOfRange_24 rfl rfl (fun hc21 => ?_) (fun hc21 => ?_)
          · replace hw := hw.2 hc21
            refine x_b C (pc' := 33) (L' := [(5, vI (s18 + 1)), (3, vI p2), (4, vA (h.fr 2301 o))]) (st' := []) [(.iinc 5 1, 3)] ⟨dJ12_indexOfRange_30, rfl⟩ rfl ?_
            refine x_goto C 13 dJ12_indexOfRange_33 rfl ?_
            refine x_sub C (L' := [(3, vI p2), (4, vA (h.fr 2301 o)), (5, vI (s18 + 1))]) [1, 2, 0] rfl ?_
            obtain ⟨m9, hm9, hw⟩ := hw
            exact ih18 m9 hm9 (s18 + 1) T19 hw
          · replace hw := hw.1 hc21
            refine x_b C (pc' := 29) (L' := [(3, vI p2), (4, vA (h.fr 2301 o)), (5, vI s18)]) (st' := [vI s18]) [(.iload 5, 2)] ⟨dJ12_indexOfRange_27, rfl⟩ rfl ?_
            exact x_iret C dJ12_indexOfRange_29 ⟨_, rfl, hw⟩
    exact key18 n18 p1 h hI18
def wp_J12_indexOf (o : Nat) (p0 : Option Nat) (h : AH) (Q : Int32 → AH → Prop) : Prop :=
  nn h (some o) 23 ∧
  wp_J12_indexOfRange o p0 0 (h.fi 2302 o) (h.srm 0 0) fun r2 h3 => ∀ h4, h4 = h3.srm h.rc h.rs →
  Q r2 h4
theorem hd_J12_indexOf : yJ12_indexOf.cls = RJ12 ∧ yJ12_indexOf.cls ≠ "java/lang/invoke/MethodHandle" ∧ yJ12_indexOf.cls ≠ "java/lang/invoke/VarHandle" ∧ (parseMethodDescriptor yJ12_indexOf.desc).map (fun d => d.parameters.length) = some 1 := by decide +kernel
theorem ok_J12_indexOf {l : Launch} {D : va_G} {s0 : S0} (hG : G0 D s0) {o : Nat} {p0 : Option Nat} {h : AH} {Q : Int32 → AH → Prop} (hw : wp_J12_indexOf o p0 h Q) : OKm l D s0 yJ12_indexOf cJ12_indexOf 2 (some .int) 3 107 [vA (some o), vA p0] h (QI Q) := by
  refine x_metF hG (by decide +kernel) (own := RJ12) (mn := "indexOf") rfl rfl (L0 := [(0, vA (some o)), (1, vA p0)]) rfl rfl ?_
  intro K C
  unfold wp_J12_indexOf at hw
  refine x_b C (pc' := 4) (L' := [(0, vA (some o)), (1, vA p0)]) (st' := [vA (some o), vI 0, vA p0, vA (some o)]) [(.aload_n 0, 1), (.aload_n 1, 1), (.iconst 0, 1), (.aload_n 0, 1)] ⟨dJ12_indexOf_0, dJ12_indexOf_1, dJ12_indexOf_2, dJ12_indexOf_3, rfl⟩ rfl ?_
  have hn1 := hw.1
  replace hw := hw.2
  refine x_get C 23 2 (pc' := 7) (v := vI (h.fi 2302 o)) dJ12_indexOf_4 rfl rfl rfl q652 rfl hn1 ?_
  refine x_cV C 23 10 (mc2 := 0) (ms2 := 0) [vA p0, vI 0, vI (h.fi 2302 o)] [] dJ12_indexOf_7 rfl (ok_J12_indexOfRange hG hw) ⟨Nat.zero_le _, Nat.zero_le _⟩ q933 q934 q935 q175 q936 rfl hd_J12_indexOfRange ⟨rfl, rfl, rfl⟩ hn1 (fun v9 h3 h4 hq9 eh4 => ?_)
  obtain ⟨r2, rfl, hw⟩ := hq9
  replace hw := hw h4 eh4
  exact x_iret C dJ12_indexOf_10 ⟨_, rfl, hw⟩
def wp_J12_contains (o : Nat) (p0 : Option Nat) (h : AH) (Q : Int32 → AH → Prop) : Prop :=
  nn h (some o) 23 ∧
  wp_J12_indexOf o p0 (h.srm 0 0) fun r2 h3 => ∀ h4, h4 = h3.srm h.rc h.rs →
  ∀ m5 : Int32, m5 = (if r2 < 0 then 0 else 1) →
  bz m5 ∧ Q m5 h4
theorem hd_J12_contains : yJ12_contains.cls = RJ12 ∧ yJ12_contains.cls ≠ "java/lang/invoke/MethodHandle" ∧ yJ12_contains.cls ≠ "java/lang/invoke/VarHandle" ∧ (parseMethodDescriptor yJ12_contains.desc).map (fun d => d.parameters.length) = some 1 := by decide +kernel
theorem ok_J12_contains {l : Launch} {D : va_G} {s0 : S0} (hG : G0 D s0) {o : Nat} {p0 : Option Nat} {h : AH} {Q : Int32 → AH → Prop} (hw : wp_J12_contains o p0 h Q) : OKm l D s0 yJ12_contains cJ12_contains 2 (some .boolean) 4 128 [vA (some o), vA p0] h (QI Q) := by
  refine x_metF hG (by decide +kernel) (own := RJ12) (mn := "contains") rfl rfl (L0 := [(0, vA (some o)), (1, vA p0)]) rfl rfl ?_
  intro K C
  unfold wp_J12_contains at hw
  refine x_b C (pc' := 2) (L' := [(0, vA (some o)), (1, vA p0)]) (st' := [vA p0, vA (some o)]) [(.aload_n 0, 1), (.aload_n 1, 1)] ⟨dJ12_contains_0, dJ12_contains_1, rfl⟩ rfl ?_
  have hn1 := hw.1
  replace hw := hw.2
  refine x_cV C 23 5 (mc2 := 0) (ms2 := 0) [vA p0] [] dJ12_contains_2 rfl (ok_J12_indexOf hG hw) ⟨Nat.zero_le _, Nat.zero_le _⟩ q929 q930 q931 q175 q932 rfl hd_J12_indexOf ⟨rfl, rfl, rfl⟩ hn1 (fun v9 h3 h4 hq9 eh4 => ?_)
  obtain ⟨r2, rfl, hw⟩ := hq9
  replace hw := hw h4 eh4
  have kj6 : ∀ (m5 : Int32), m5 = (if r2 < 0 then 0 else 1) → K 13 [] [vI m5] h4 := by
    intro m5 em5
    replace hw := hw m5 em5
    exact x_zret C dJ12_contains_13 (bz_n hw.1) ⟨_, rfl, hw.2⟩
  refine x_if_lt C 12 8 dJ12_contains_5 rfl rfl (fun hc7 => ?_) (fun hc7 => ?_)
  · refine x_b C (pc' := 13) (L' := [(0, vA (some o)), (1, vA p0)]) (st' := [vI 0]) [(.iconst 0, 1)] ⟨dJ12_contains_12, rfl⟩ rfl ?_
    refine x_sub C (L' := []) [] rfl ?_
    exact kj6 _ ((if_pos hc7).symm)
  · refine x_b C (pc' := 9) (L' := [(0, vA (some o)), (1, vA p0)]) (st' := [vI 1]) [(.iconst 1, 1)] ⟨dJ12_contains_8, rfl⟩ rfl ?_
    refine x_goto C 13 dJ12_contains_9 rfl ?_
    refine x_sub C (L' := []) [] rfl ?_
    exact kj6 _ ((if_neg hc7).symm)
def wp_J12_elementData (o : Nat) (p0 : Int32) (h : AH) (Q : Option Nat → AH → Prop) : Prop :=
  nn h (some o) 23 ∧
  ix h (h.fr 2301 o) 44 p0 ∧
  Q (h.ar (adr (h.fr 2301 o)) (ni p0)) h
theorem hd_J12_elementData : yJ12_elementData.cls = RJ12 ∧ yJ12_elementData.cls ≠ "java/lang/invoke/MethodHandle" ∧ yJ12_elementData.cls ≠ "java/lang/invoke/VarHandle" ∧ (parseMethodDescriptor yJ12_elementData.desc).map (fun d => d.parameters.length) = some 1 := by decide +kernel
theorem ok_J12_elementData {l : Launch} {D : va_G} {s0 : S0} (hG : G0 D s0) {o : Nat} {p0 : Int32} {h : AH} {Q : Option Nat → AH → Prop} (hw : wp_J12_elementData o p0 h Q) : OKm l D s0 yJ12_elementData cJ12_elementData 2 (some (.object "java/lang/Object")) 0 0 [vA (some o), vI p0] h (QA Q) := by
  refine x_metF hG (by decide +kernel) (own := RJ12) (mn := "elementData") rfl rfl (L0 := [(0, vA (some o)), (1, vI p0)]) rfl rfl ?_
  intro K C
  unfold wp_J12_elementData at hw
  refine x_b C (pc' := 1) (L' := [(0, vA (some o)), (1, vI p0)]) (st' := [vA (some o)]) [(.aload_n 0, 1)] ⟨dJ12_elementData_0, rfl⟩ rfl ?_
  have hn1 := hw.1
  replace hw := hw.2
  refine x_get C 23 1 (pc' := 4) (v := vA (h.fr 2301 o)) dJ12_elementData_1 rfl rfl rfl q649 rfl hn1 ?_
  refine x_b C (pc' := 5) (L' := [(0, vA (some o)), (1, vI p0)]) (st' := [vI p0, vA (h.fr 2301 o)]) [(.iload_n 1, 1)] ⟨dJ12_elementData_4, rfl⟩ rfl ?_
  refine x_aald C 44 6 dJ12_elementData_5 rfl rfl ⟨rfl, fun _ _ => rfl⟩ hw.1 ?_
  replace hw := hw.2
  exact x_aret C dJ12_elementData_6 (Or.inl ⟨_, rfl⟩) ⟨_, rfl, hw⟩
def wp_J12_fastRemove (o : Nat) (p0 : Option Nat) (p1 : Int32) (h : AH) (Q : AH → Prop) : Prop :=
  nn h (some o) 23 ∧
  ∀ h2, h2 = h.sfi 2300 o ((h.fi 2300 o) + 1) →
  xjn (α := Unit) (fun J4 =>
  ((((h2.fi 2302 o) - 1) ≤ p1 →
  J4 () h2) ∧ (¬ ((h2.fi 2302 o) - 1) ≤ p1 →
  cpk h2 44 p0 (p1 + 1) p0 p1 (((h2.fi 2302 o) - 1) - p1) ∧
  (∀ i, i < ni (((h2.fi 2302 o) - 1) - p1) → ∀ y, h2.ar (adr p0) (ni (p1 + 1) + i) = some y → anyO h2 y) ∧
  ∀ h6, h6 = h2.war (adr p0) (va_cpy (h2.ar (adr p0)) (h2.ar (adr p0)) (ni (p1 + 1)) (ni p1) (ni (((h2.fi 2302 o) - 1) - p1))) →
  J4 () h6))) (fun x7 T8 =>
  nn T8 (some o) 23 ∧
  ∀ h10, h10 = T8.sfi 2302 o ((h2.fi 2302 o) - 1) →
  ix h10 p0 44 ((h2.fi 2302 o) - 1) ∧
  sto h10 none 44 ∧
  ∀ h11, h11 = h10.sar (adr p0) (ni ((h2.fi 2302 o) - 1)) none →
  Q h11)
theorem hd_J12_fastRemove : yJ12_fastRemove.cls = RJ12 ∧ yJ12_fastRemove.cls ≠ "java/lang/invoke/MethodHandle" ∧ yJ12_fastRemove.cls ≠ "java/lang/invoke/VarHandle" ∧ (parseMethodDescriptor yJ12_fastRemove.desc).map (fun d => d.parameters.length) = some 2 := by decide +kernel
theorem ok_J12_fastRemove {l : Launch} {D : va_G} {s0 : S0} (hG : G0 D s0) {o : Nat} {p0 : Option Nat} {p1 : Int32} {h : AH} {Q : AH → Prop} (hw : wp_J12_fastRemove o p0 p1 h Q) : OKm l D s0 yJ12_fastRemove cJ12_fastRemove 4 none 1 60 [vA (some o), vA p0, vI p1] h (QV Q) := by
  refine x_metF hG (by decide +kernel) (own := RJ12) (mn := "fastRemove") rfl rfl (L0 := [(0, vA (some o)), (1, vA p0), (2, vI p1)]) rfl rfl ?_
  intro K C
  unfold wp_J12_fastRemove at hw
  refine x_b C (pc' := 2) (L' := [(0, vA (some o)), (1, vA p0), (2, vI p1)]) (st' := [vA (some o), vA (some o)]) [(.aload_n 0, 1), (.dup, 1)] ⟨dJ12_fastRemove_0, dJ12_fastRemove_1, rfl⟩ rfl ?_
  have hn1 := hw.1
  replace hw := hw.2
  refine x_getS C 23 0 (pc' := 5) (v := vI (h.fi 2300 o)) dJ12_fastRemove_2 rfl rfl rfl q656 q655 rfl hn1 ?_
  refine x_b C (pc' := 7) (L' := [(0, vA (some o)), (1, vA p0), (2, vI p1)]) (st' := [vI ((h.fi 2300 o) + 1), vA (some o)]) [(.iconst 1, 1), (.iadd, 1)] ⟨dJ12_fastRemove_5, dJ12_fastRemove_6, rfl⟩ rfl ?_
  refine x_pIS C 23 0 10 dJ12_fastRemove_7 rfl rfl rfl rfl q656 q655 (fun _ _ _ => rfl) rfl rfl hn1 (Or.inl rfl) (fun h2 eh2 => ?_)
  replace hw := hw h2 eh2
  refine x_b C (pc' := 11) (L' := [(0, vA (some o)), (1, vA p0), (2, vI p1)]) (st' := [vA (some o)]) [(.aload_n 0, 1)] ⟨dJ12_fastRemove_10, rfl⟩ rfl ?_
  refine x_get C 23 2 (pc' := 14) (v := vI (h2.fi 2302 o)) dJ12_fastRemove_11 rfl rfl rfl q652 rfl (nn_eq eh2 hn1 rfl) ?_
  refine x_b C (pc' := 19) (L' := [(3, vI ((h2.fi 2302 o) - 1)), (0, vA (some o)), (1, vA p0), (2, vI p1)]) (st' := [vI p1, vI ((h2.fi 2302 o) - 1)]) [(.iconst 1, 1), (.isub, 1), (.dup, 1), (.istore_n 3, 1), (.iload_n 2, 1)] ⟨dJ12_fastRemove_14, dJ12_fastRemove_15, dJ12_fastRemove_16, dJ12_fastRemove_17, dJ12_fastRemove_18, rfl⟩ rfl ?_
  obtain ⟨J4, hw, hJ4⟩ := xjn.out hw
  have kj3 : ∀ (x7 : Unit) (T8 : AH), J4 x7 T8 → K 34 [(0, vA (some o)), (1, vA p0), (3, vI ((h2.fi 2302 o) - 1))] [] T8 := by
    intro x7 T8 hj
    replace hw := hJ4 x7 T8 hj
    refine x_b C (pc' := 38) (L' := [(0, vA (some o)), (1, vA p0), (3, vI ((h2.fi 2302 o) - 1))]) (st' := [vI ((h2.fi 2302 o) - 1), vA (some o), vI ((h2.fi 2302 o) - 1), vA p0]) [(.aload_n 1, 1), (.aload_n 0, 1), (.iload_n 3, 1), (.dup_x1, 1)] ⟨dJ12_fastRemove_34, dJ12_fastRemove_35, dJ12_fastRemove_36, dJ12_fastRemove_37, rfl⟩ rfl ?_
    have hn9 := hw.1
    replace hw := hw.2
    refine x_pI C 23 2 41 dJ12_fastRemove_38 rfl rfl rfl rfl q652 (fun _ _ _ => rfl) rfl rfl hn9 (Or.inl rfl) (fun h10 eh10 => ?_)
    replace hw := hw h10 eh10
    refine x_b C (pc' := 42) (L' := [(0, vA (some o)), (1, vA p0), (3, vI ((h2.fi 2302 o) - 1))]) (st' := [vA none, vI ((h2.fi 2302 o) - 1), vA p0]) [(.aconst_null, 1)] ⟨dJ12_fastRemove_41, rfl⟩ rfl ?_
    refine x_aast C 44 43 dJ12_fastRemove_42 rfl rfl rfl hw.1 hw.2.1 (fun h11 eh11 => ?_)
    replace hw := hw.2.2 h11 eh11
    exact x_vret C dJ12_fastRemove_43 ⟨rfl, hw⟩
  refine x_icmp_le C 34 22 dJ12_fastRemove_19 rfl rfl (fun hc5 => ?_) (fun hc5 => ?_)
  · replace hw := hw.1 hc5
    refine x_sub C (L' := [(0, vA (some o)), (1, vA p0), (3, vI ((h2.fi 2302 o) - 1))]) [1, 2, 0] rfl ?_
    exact kj3 () h2 hw
  · replace hw := hw.2 hc5
    refine x_b C (pc' := 31) (L' := [(3, vI ((h2.fi 2302 o) - 1)), (0, vA (some o)), (1, vA p0), (2, vI p1)]) (st' := [vI (((h2.fi 2302 o) - 1) - p1), vI p1, vA p0, vI (p1 + 1), vA p0]) [(.aload_n 1, 1), (.iload_n 2, 1), (.iconst 1, 1), (.iadd, 1), (.aload_n 1, 1), (.iload_n 2, 1), (.iload_n 3, 1), (.iload_n 2, 1), (.isub, 1)] ⟨dJ12_fastRemove_22, dJ12_fastRemove_23, dJ12_fastRemove_24, dJ12_fastRemove_25, dJ12_fastRemove_26, dJ12_fastRemove_27, dJ12_fastRemove_28, dJ12_fastRemove_29, dJ12_fastRemove_30, rfl⟩ rfl ?_
    refine x_copyA C 34 [] dJ12_fastRemove_31 rfl q2168 q397 q396 q168 ⟨rfl, rfl⟩ hw.1 hw.2.1 (fun h6 eh6 => ?_)
    replace hw := hw.2.2 h6 eh6
    refine x_sub C (L' := [(0, vA (some o)), (1, vA p0), (3, vI ((h2.fi 2302 o) - 1))]) [1, 2, 0] rfl ?_
    exact kj3 () h6 hw
def wp_J15_checkIndex (p0 : Int32) (p1 : Int32) (h : AH) (Q : Int32 → AH → Prop) : Prop :=
  wp_J8_checkIndex p0 p1 none (h.srm 0 0) fun r1 h2 => ∀ h3, h3 = h2.srm h.rc h.rs →
  Q r1 h3
theorem hd_J15_checkIndex : yJ15_checkIndex.cls ≠ "java/lang/invoke/MethodHandle" ∧ yJ15_checkIndex.cls ≠ "java/lang/invoke/VarHandle" ∧ (parseMethodDescriptor yJ15_checkIndex.desc).map (fun d => d.parameters.length) = some 2 := by decide +kernel
theorem ok_J15_checkIndex {l : Launch} {D : va_G} {s0 : S0} (hG : G0 D s0) {p0 : Int32} {p1 : Int32} {h : AH} {Q : Int32 → AH → Prop} (hw : wp_J15_checkIndex p0 p1 h Q) : OKm l D s0 yJ15_checkIndex cJ15_checkIndex 2 (some .int) 2 82 [vI p0, vI p1] h (QI Q) := by
  refine x_metF hG (by decide +kernel) (own := RJ15) (mn := "checkIndex") rfl rfl (L0 := [(0, vI p0), (1, vI p1)]) rfl rfl ?_
  intro K C
  unfold wp_J15_checkIndex at hw
  refine x_b C (pc' := 3) (L' := [(0, vI p0), (1, vI p1)]) (st' := [vA none, vI p1, vI p0]) [(.iload_n 0, 1), (.iload_n 1, 1), (.aconst_null, 1)] ⟨dJ15_checkIndex_0, dJ15_checkIndex_1, dJ15_checkIndex_2, rfl⟩ rfl ?_
  refine x_cS C 6 (mc2 := 0) (ms2 := 0) [vI p0, vI p1, vA none] [] dJ15_checkIndex_3 rfl (ok_J8_checkIndex hG hw) ⟨Nat.zero_le _, Nat.zero_le _⟩ q862 q449 q170 q450 hd_J8_checkIndex ⟨rfl, rfl, rfl⟩ (fun v9 h2 h3 hq9 eh3 => ?_)
  obtain ⟨r1, rfl, hw⟩ := hq9
  replace hw := hw h3 eh3
  exact x_iret C dJ15_checkIndex_6 ⟨_, rfl, hw⟩
def wp_J12_get (o : Nat) (p0 : Int32) (h : AH) (Q : Option Nat → AH → Prop) : Prop :=
  nn h (some o) 23 ∧
  wp_J15_checkIndex p0 (h.fi 2302 o) (h.srm 0 0) fun r2 h3 => ∀ h4, h4 = h3.srm h.rc h.rs →
  nn h4 (some o) 23 ∧
  wp_J12_elementData o p0 (h4.srm 0 0) fun r6 h7 => ∀ h8, h8 = h7.srm h4.rc h4.rs →
  Q r6 h8
theorem hd_J12_get : yJ12_get.cls = RJ12 ∧ yJ12_get.cls ≠ "java/lang/invoke/MethodHandle" ∧ yJ12_get.cls ≠ "java/lang/invoke/VarHandle" ∧ (parseMethodDescriptor yJ12_get.desc).map (fun d => d.parameters.length) = some 1 := by decide +kernel
theorem ok_J12_get {l : Launch} {D : va_G} {s0 : S0} (hG : G0 D s0) {o : Nat} {p0 : Int32} {h : AH} {Q : Option Nat → AH → Prop} (hw : wp_J12_get o p0 h Q) : OKm l D s0 yJ12_get cJ12_get 2 (some (.object "java/lang/Object")) 3 103 [vA (some o), vI p0] h (QA Q) := by
  refine x_metF hG (by decide +kernel) (own := RJ12) (mn := "get") rfl rfl (L0 := [(0, vA (some o)), (1, vI p0)]) rfl rfl ?_
  intro K C
  unfold wp_J12_get at hw
  refine x_b C (pc' := 2) (L' := [(0, vA (some o)), (1, vI p0)]) (st' := [vA (some o), vI p0]) [(.iload_n 1, 1), (.aload_n 0, 1)] ⟨dJ12_get_0, dJ12_get_1, rfl⟩ rfl ?_
  have hn1 := hw.1
  replace hw := hw.2
  refine x_get C 23 2 (pc' := 5) (v := vI (h.fi 2302 o)) dJ12_get_2 rfl rfl rfl q652 rfl hn1 ?_
  refine x_cS C 8 (mc2 := 0) (ms2 := 0) [vI p0, vI (h.fi 2302 o)] [] dJ12_get_5 rfl (ok_J15_checkIndex hG hw) ⟨Nat.zero_le _, Nat.zero_le _⟩ q859 q860 q179 q861 hd_J15_checkIndex ⟨rfl, rfl, rfl⟩ (fun v9 h3 h4 hq9 eh4 => ?_)
  obtain ⟨r2, rfl, hw⟩ := hq9
  replace hw := hw h4 eh4
  refine x_b C (pc' := 11) (L' := [(0, vA (some o)), (1, vI p0)]) (st' := [vI p0, vA (some o)]) [(.pop, 1), (.aload_n 0, 1), (.iload_n 1, 1)] ⟨dJ12_get_8, dJ12_get_9, dJ12_get_10, rfl⟩ rfl ?_
  have hn5 := hw.1
  replace hw := hw.2
  refine x_cV C 23 14 (mc2 := 0) (ms2 := 0) [vI p0] [] dJ12_get_11 rfl (ok_J12_elementData hG hw) ⟨Nat.zero_le _, Nat.zero_le _⟩ q863 q864 q865 q175 q866 rfl hd_J12_elementData ⟨rfl, rfl, rfl⟩ hn5 (fun v9 h7 h8 hq9 eh8 => ?_)
  obtain ⟨r6, rfl, hw⟩ := hq9
  replace hw := hw h8 eh8
  exact x_aret C dJ12_get_14 (Or.inl ⟨_, rfl⟩) ⟨_, rfl, hw⟩
def wp_J12_init (o : Nat) (p0 : Int32) (h : AH) (Q : AH → Prop) : Prop :=
  wp_J11_init o (h.srm 0 0) fun h2 => ∀ h3, h3 = h2.srm h.rc h.rs →
  ((p0 ≤ 0 →
  ((p0 = 0 →
  nn h3 (some o) 23 ∧
  ∀ h7, h7 = h3.sfr 2301 o (sref (h3.cs 503)) →
  Q h7) ∧ (¬ p0 = 0 →
  False))) ∧ (¬ p0 ≤ 0 →
  nl h3 p0 ∧
  ∀ h8, h8 = h3.new 44 (ni p0) (ni p0) →
  nn h8 (some o) 23 ∧
  ∀ h10, h10 = h8.sfr 2301 o (some h3.sz) →
  Q h10))
theorem hd_J12_init : yJ12_init.name = "<init>" ∧ yJ12_init.cls ≠ "java/lang/invoke/MethodHandle" ∧ yJ12_init.cls ≠ "java/lang/invoke/VarHandle" ∧ (parseMethodDescriptor yJ12_init.desc).map (fun d => d.parameters.length) = some 1 := by decide +kernel
theorem ok_J12_init {l : Launch} {D : va_G} {s0 : S0} (hG : G0 D s0) {o : Nat} {p0 : Int32} {h : AH} {Q : AH → Prop} (hw : wp_J12_init o p0 h Q) : OKm l D s0 yJ12_init cJ12_init 2 none 3 100 [vA (some o), vI p0] h (QV Q) := by
  refine x_metF hG (by decide +kernel) (own := RJ12) (mn := "<init>") rfl rfl (L0 := [(0, vA (some o)), (1, vI p0)]) rfl rfl ?_
  intro K C
  unfold wp_J12_init at hw
  refine x_b C (pc' := 1) (L' := [(0, vA (some o)), (1, vI p0)]) (st' := [vA (some o)]) [(.aload_n 0, 1)] ⟨dJ12_init_0, rfl⟩ rfl ?_
  refine x_cI C 4 (mc2 := 0) (ms2 := 0) [] [] dJ12_init_1 rfl (ok_J11_init hG hw) ⟨Nat.zero_le _, Nat.zero_le _⟩ q638 q639 q174 q640 hd_J11_init ⟨rfl, rfl, rfl⟩ (fun v9 h2 h3 hq9 eh3 => ?_)
  obtain ⟨rfl, hw⟩ := hq9
  replace hw := hw h3 eh3
  refine x_b C (pc' := 5) (L' := [(0, vA (some o)), (1, vI p0)]) (st' := [vI p0]) [(.iload_n 1, 1)] ⟨dJ12_init_4, rfl⟩ rfl ?_
  refine x_if_le C 19 8 dJ12_init_5 rfl rfl (fun hc4 => ?_) (fun hc4 => ?_)
  · replace hw := hw.1 hc4
    refine x_b C (pc' := 20) (L' := [(0, vA (some o)), (1, vI p0)]) (st' := [vI p0]) [(.iload_n 1, 1)] ⟨dJ12_init_19, rfl⟩ rfl ?_
    refine x_if_ne C 33 23 dJ12_init_20 rfl rfl (fun hc5 => ?_) (fun hc5 => ?_)
    · replace hw := hw.2 hc5
      exact hw.elim
    · replace hw := hw.1 hc5
      refine x_b C (pc' := 24) (L' := [(0, vA (some o)), (1, vI p0)]) (st' := [vA (some o)]) [(.aload_n 0, 1)] ⟨dJ12_init_23, rfl⟩ rfl ?_
      refine x_getsR C 503 27 dJ12_init_24 rfl z_ee q647 ?_
      have hn6 := hw.1
      replace hw := hw.2
      refine x_pA C 23 1 30 dJ12_init_27 rfl rfl rfl rfl q649 (fun _ _ _ => rfl) (rf_n2 _) (rf_f2 _) hn6 (Or.inl rfl) (fun h7 eh7 => ?_)
      replace hw := hw h7 eh7
      refine x_goto C 60 dJ12_init_30 rfl ?_
      exact x_vret C dJ12_init_60 ⟨rfl, hw⟩
  · replace hw := hw.2 hc4
    refine x_b C (pc' := 10) (L' := [(0, vA (some o)), (1, vI p0)]) (st' := [vI p0, vA (some o)]) [(.aload_n 0, 1), (.iload_n 1, 1)] ⟨dJ12_init_8, dJ12_init_9, rfl⟩ rfl ?_
    refine x_anew C 44 13 dJ12_init_10 rfl rfl q645 q646 hw.1 (fun h8 eh8 => ?_)
    replace hw := hw.2 h8 eh8
    have hn9 := hw.1
    replace hw := hw.2
    refine x_pA C 23 1 16 dJ12_init_13 rfl rfl rfl rfl q649 (fun _ _ _ => rfl) (rf_n2 _) (rf_f2 _) hn9 (Or.inl rfl) (fun h10 eh10 => ?_)
    replace hw := hw h10 eh10
    refine x_goto C 60 dJ12_init_16 rfl ?_
    exact x_vret C dJ12_init_60 ⟨rfl, hw⟩
def wp_J16_init (o : Nat) (p0 : Option Nat) (h : AH) (Q : AH → Prop) : Prop :=
  nn h (some o) 24 ∧
  ∀ h2, h2 = h.sfr 2403 o p0 →
  ∀ h3, h3 = h2.sfi 2401 o (-1) →
  nn h3 (h3.fr 2403 o) 23 ∧
  ∀ h5, h5 = h3.sfi 2402 o (h3.fi 2300 (adr (h3.fr 2403 o))) →
  Q h5
theorem hd_J16_init : yJ16_init.name = "<init>" ∧ yJ16_init.cls ≠ "java/lang/invoke/MethodHandle" ∧ yJ16_init.cls ≠ "java/lang/invoke/VarHandle" ∧ (parseMethodDescriptor yJ16_init.desc).map (fun d => d.parameters.length) = some 1 := by decide +kernel
theorem ok_J16_init {l : Launch} {D : va_G} {s0 : S0} (hG : G0 D s0) {o : Nat} {p0 : Option Nat} {h : AH} {Q : AH → Prop} (hw : wp_J16_init o p0 h Q) : OKm l D s0 yJ16_init cJ16_init 2 none 1 60 [vA (some o), vA p0] h (QV Q) := by
  refine x_metF hG (by decide +kernel) (own := RJ16) (mn := "<init>") rfl rfl (L0 := [(0, vA (some o)), (1, vA p0)]) rfl rfl ?_
  intro K C
  unfold wp_J16_init at hw
  refine x_b C (pc' := 2) (L' := [(0, vA (some o)), (1, vA p0)]) (st' := [vA p0, vA (some o)]) [(.aload_n 0, 1), (.aload_n 1, 1)] ⟨dJ16_init_0, dJ16_init_1, rfl⟩ rfl ?_
  have hn1 := hw.1
  replace hw := hw.2
  refine x_pFA C 24 3 5 dJ16_init_2 rfl rfl rfl rfl q1297 rfl rfl (fun _ _ _ => rfl) (rf_n1 _) (rf_f1 _) hn1 (Or.inl rfl) (fun h2 eh2 => ?_)
  replace hw := hw h2 eh2
  refine x_b C (pc' := 6) (L' := [(0, vA (some o)), (1, vA p0)]) (st' := [vA (some o)]) [(.aload_n 0, 1)] ⟨dJ16_init_5, rfl⟩ rfl ?_
  refine x_objI C 9 [] dJ16_init_6 rfl q1293 q208 q209 ⟨rfl, rfl⟩ ?_
  refine x_b C (pc' := 11) (L' := [(0, vA (some o)), (1, vA p0)]) (st' := [vI (-1), vA (some o)]) [(.aload_n 0, 1), (.iconst (-1), 1)] ⟨dJ16_init_9, dJ16_init_10, rfl⟩ rfl ?_
  refine x_pI C 24 1 14 dJ16_init_11 rfl rfl rfl rfl q1295 (fun _ _ _ => rfl) rfl rfl (nn_eq eh2 hn1 rfl) (Or.inl rfl) (fun h3 eh3 => ?_)
  replace hw := hw h3 eh3
  refine x_b C (pc' := 16) (L' := [(0, vA (some o)), (1, vA p0)]) (st' := [vA (some o), vA (some o)]) [(.aload_n 0, 1), (.aload_n 0, 1)] ⟨dJ16_init_14, dJ16_init_15, rfl⟩ rfl ?_
  refine x_get C 24 3 (pc' := 19) (v := vA (h3.fr 2403 o)) dJ16_init_16 rfl rfl rfl q1297 rfl (nn_eq eh3 (nn_eq eh2 hn1 rfl) rfl) ?_
  have hn4 := hw.1
  replace hw := hw.2
  refine x_getS C 23 0 (pc' := 22) (v := vI (h3.fi 2300 (adr (h3.fr 2403 o)))) dJ16_init_19 rfl rfl rfl q654 q655 rfl hn4 ?_
  refine x_pI C 24 2 25 dJ16_init_22 rfl rfl rfl rfl q1296 (fun _ _ _ => rfl) rfl rfl (nn_eq eh3 (nn_eq eh2 hn1 rfl) rfl) (Or.inl rfl) (fun h5 eh5 => ?_)
  replace hw := hw h5 eh5
  exact x_vret C dJ16_init_25 ⟨rfl, hw⟩
def wp_J12_iterator (o : Nat) (h : AH) (Q : Option Nat → AH → Prop) : Prop :=
  nr h 4 ∧
  ∀ h1, h1 = h.new 24 0 4 →
  wp_J16_init h.sz (some o) (h1.srm 0 0) fun h3 => ∀ h4, h4 = h3.srm h1.rc h1.rs →
  Q (some h.sz) h4
theorem hd_J12_iterator : yJ12_iterator.cls = RJ12 ∧ yJ12_iterator.cls ≠ "java/lang/invoke/MethodHandle" ∧ yJ12_iterator.cls ≠ "java/lang/invoke/VarHandle" ∧ (parseMethodDescriptor yJ12_iterator.desc).map (fun d => d.parameters.length) = some 0 := by decide +kernel
theorem ok_J12_iterator {l : Launch} {D : va_G} {s0 : S0} (hG : G0 D s0) {o : Nat} {h : AH} {Q : Option Nat → AH → Prop} (hw : wp_J12_iterator o h Q) : OKm l D s0 yJ12_iterator cJ12_iterator 1 (some (.object "java/util/Iterator")) 2 81 [vA (some o)] h (QA Q) := by
  refine x_metF hG (by decide +kernel) (own := RJ12) (mn := "iterator") rfl rfl (L0 := [(0, vA (some o))]) rfl rfl ?_
  intro K C
  unfold wp_J12_iterator at hw
  refine x_new C 24 3 dJ12_iterator_0 rfl rfl q1288 q1289 q188 hw.1 (fun h1 eh1 => ?_)
  replace hw := hw.2 h1 eh1
  refine x_b C (pc' := 5) (L' := [(0, vA (some o))]) (st' := [vA (some o), vA (some h.sz), vA (some h.sz)]) [(.dup, 1), (.aload_n 0, 1)] ⟨dJ12_iterator_3, dJ12_iterator_4, rfl⟩ rfl ?_
  refine x_cI C 8 (mc2 := 0) (ms2 := 0) [vA (some o)] [vA (some h.sz)] dJ12_iterator_5 rfl (ok_J16_init hG hw) ⟨Nat.zero_le _, Nat.zero_le _⟩ q1290 q1291 q188 q1292 hd_J16_init ⟨rfl, rfl, rfl⟩ (fun v9 h3 h4 hq9 eh4 => ?_)
  obtain ⟨rfl, hw⟩ := hq9
  replace hw := hw h4 eh4
  exact x_aret C dJ12_iterator_8 (Or.inl ⟨_, rfl⟩) ⟨_, rfl, hw⟩
def wp_J12_remove (o : Nat) (p0 : Option Nat) (h : AH) (Q : Int32 → AH → Prop) : Prop :=
  nn h (some o) 23 ∧
  ((p0 = none →
  xlp (σ := Int32) (fun s22 T23 k22 =>
  (((h.fi 2302 o) ≤ s22 →
  Q 0 T23) ∧ (¬ (h.fi 2302 o) ≤ s22 →
  ix T23 (h.fr 2301 o) 44 s22 ∧
  (((T23.ar (adr (h.fr 2301 o)) (ni s22)) = none →
  nn T23 (some o) 23 ∧
  wp_J12_fastRemove o (h.fr 2301 o) s22 (T23.srm 0 0) fun h28 => ∀ h29, h29 = h28.srm T23.rc T23.rs →
  Q 1 h29) ∧ (¬ (T23.ar (adr (h.fr 2301 o)) (ni s22)) = none →
  k22 (s22 + 1) T23))))) 0 h) ∧ (¬ p0 = none →
  xlp (σ := Int32) (fun s3 T4 k3 =>
  (((h.fi 2302 o) ≤ s3 →
  Q 0 T4) ∧ (¬ (h.fi 2302 o) ≤ s3 →
  ix T4 (h.fr 2301 o) 44 s3 ∧
  xjn (α := Int32) (fun J6 =>
  ((nn T4 p0 22 ∧
  wp_J2_equals (adr p0) (T4.ar (adr (h.fr 2301 o)) (ni s3)) (T4.srm 0 0) fun r16 h17 => ∀ h18, h18 = h17.srm T4.rc T4.rs →
  J6 r16 h18) ∨
   (nn T4 p0 6 ∧
  J6 (if p0 = (T4.ar (adr (h.fr 2301 o)) (ni s3)) then 1 else 0) T4) ∨
   (nn T4 p0 7 ∧
  J6 (if p0 = (T4.ar (adr (h.fr 2301 o)) (ni s3)) then 1 else 0) T4) ∨
   (nn T4 p0 15 ∧
  J6 (if p0 = (T4.ar (adr (h.fr 2301 o)) (ni s3)) then 1 else 0) T4))) (fun r8 h9 =>
  ((r8 = 0 →
  k3 (s3 + 1) h9) ∧ (¬ r8 = 0 →
  nn h9 (some o) 23 ∧
  wp_J12_fastRemove o (h.fr 2301 o) s3 (h9.srm 0 0) fun h13 => ∀ h14, h14 = h13.srm h9.rc h9.rs →
  Q 1 h14)))))) 0 h))
theorem hd_J12_remove : yJ12_remove.cls = RJ12 ∧ yJ12_remove.cls ≠ "java/lang/invoke/MethodHandle" ∧ yJ12_remove.cls ≠ "java/lang/invoke/VarHandle" ∧ (parseMethodDescriptor yJ12_remove.desc).map (fun d => d.parameters.length) = some 1 := by decide +kernel
theorem ok_J12_remove {l : Launch} {D : va_G} {s0 : S0} (hG : G0 D s0) {o : Nat} {p0 : Option Nat} {h : AH} {Q : Int32 → AH → Prop} (hw : wp_J12_remove o p0 h Q) : OKm l D s0 yJ12_remove cJ12_remove 5 (some .boolean) 2 83 [vA (some o), vA p0] h (QI Q) := by
  refine x_metF hG (by decide +kernel) (own := RJ12) (mn := "remove") rfl rfl (L0 := [(0, vA (some o)), (1, vA p0)]) rfl rfl ?_
  intro K C
  unfold wp_J12_remove at hw
  refine x_b C (pc' := 1) (L' := [(0, vA (some o)), (1, vA p0)]) (st' := [vA (some o)]) [(.aload_n 0, 1)] ⟨dJ12_remove_0, rfl⟩ rfl ?_
  have hn1 := hw.1
  replace hw := hw.2
  refine x_get C 23 1 (pc' := 4) (v := vA (h.fr 2301 o)) dJ12_remove_1 rfl rfl rfl q649 rfl hn1 ?_
  refine x_b C (pc' := 6) (L' := [(2, vA (h.fr 2301 o)), (0, vA (some o)), (1, vA p0)]) (st' := [vA (some o)]) [(.astore_n 2, 1), (.aload_n 0, 1)] ⟨dJ12_remove_4, dJ12_remove_5, rfl⟩ rfl ?_
  refine x_get C 23 2 (pc' := 9) (v := vI (h.fi 2302 o)) dJ12_remove_6 rfl rfl rfl q652 rfl hn1 ?_
  refine x_b C (pc' := 14) (L' := [(4, vI 0), (3, vI (h.fi 2302 o)), (2, vA (h.fr 2301 o)), (0, vA (some o)), (1, vA p0)]) (st' := [vA p0]) [(.istore_n 3, 1), (.iconst 0, 1), (.istore 4, 2), (.aload_n 1, 1)] ⟨dJ12_remove_9, dJ12_remove_10, dJ12_remove_11, dJ12_remove_13, rfl⟩ rfl ?_
  refine x_ifnonnull C 39 17 dJ12_remove_14 rfl rfl (fun hc2 => ?_) (fun hc2 => ?_)
  · replace hw := hw.2 hc2
    obtain ⟨I3, ⟨n3, hI3⟩, hB3⟩ := xlp.out hw
    refine x_sub C (L' := [(0, vA (some o)), (1, vA p0), (2, vA (h.fr 2301 o)), (3, vI (h.fi 2302 o)), (4, vI 0)]) [3, 4, 2, 1, 0] rfl ?_
    have key3 : ∀ (n : Nat) (s3 : Int32) (T4 : AH), I3 n s3 T4 → K 39 [(0, vA (some o)), (1, vA p0), (2, vA (h.fr 2301 o)), (3, vI (h.fi 2302 o)), (4, vI s3)] [] T4 := by
      intro n
      induction n using Nat.strongRecOn with
      | ind n ih3 =>
        intro s3 T4 hI
        replace hw := hB3 n s3 T4 hI
        refine x_b C (pc' := 42) (L' := [(0, vA (some o)), (1, vA p0), (2, vA (h.fr 2301 o)), (3, vI (h.fi 2302 o)), (4, vI s3)]) (st' := [vI (h.fi 2302 o), vI s3]) [(.iload 4, 2), (.iload_n 3, 1)] ⟨dJ12_remove_39, dJ12_remove_41, rfl⟩ rfl ?_
        refine x_icmp_ge C 65 45 dJ12_remove_42 rfl rfl (fun hc5 => ?_) (fun hc5 => ?_)
        · replace hw := hw.1 hc5
          refine x_b C (pc' := 66) (L' := [(0, vA (some o)), (1, vA p0), (2, vA (h.fr 2301 o)), (3, vI (h.fi 2302 o)), (4, vI s3)]) (st' := [vI 0]) [(.iconst 0, 1)] ⟨dJ12_remove_65, rfl⟩ rfl ?_
          exact x_zret C dJ12_remove_66 rfl ⟨_, rfl, hw⟩
        · replace hw := hw.2 hc5
          refine x_b C (pc' := 49) (L' := [(0, vA (some o)), (1, vA p0), (2, vA (h.fr 2301 o)), (3, vI (h.fi 2302 o)), (4, vI s3)]) (st' := [vI s3, vA (h.fr 2301 o), vA p0]) [(.aload_n 1, 1), (.aload_n 2, 1), (.iload 4, 2)] ⟨dJ12_remove_45, dJ12_remove_46, dJ12_remove_47, rfl⟩ rfl ?_
          refine x_aald C 44 50 dJ12_remove_49 rfl rfl ⟨rfl, fun _ _ => rfl⟩ hw.1 ?_
          replace hw := hw.2
          obtain ⟨J6, hw, hJ6⟩ := xjn.out hw
          have kj7 : ∀ (r8 : Int32) (h9 : AH), J6 r8 h9 → K 53 [(0, vA (some o)), (1, vA p0), (2, vA (h.fr 2301 o)), (3, vI (h.fi 2302 o)), (4, vI s3)] [vI r8] h9 := by
            intro r8 h9 hj9
            replace hw := hJ6 r8 h9 hj9
            refine x_if_eq C 59 56 dJ12_remove_53 rfl rfl (fun hc10 => ?_) (fun hc10 => ?_)
            · replace hw := hw.1 hc10
              refine x_b C (pc' := 62) (L' := [(4, vI (s3 + 1)), (0, vA (some o)), (1, vA p0), (2, vA (h.fr 2301 o)), (3, vI (h.fi 2302 o))]) (st' := []) [(.iinc 4 1, 3)] ⟨dJ12_remove_59, rfl⟩ rfl ?_
              refine x_goto C 39 dJ12_remove_62 rfl ?_
              refine x_sub C (L' := [(0, vA (some o)), (1, vA p0), (2, vA (h.fr 2301 o)), (3, vI (h.fi 2302 o)), (4, vI (s3 + 1))]) [1, 2, 3, 4, 0] rfl ?_
              obtain ⟨m9, hm9, hw⟩ := hw
              exact ih3 m9 hm9 (s3 + 1) h9 hw
            · replace hw := hw.2 hc10
              refine x_goto C 67 dJ12_remove_56 rfl ?_
              refine x_b C (pc' := 71) (L' := [(0, vA (some o)), (1, vA p0), (2, vA (h.fr 2301 o)), (3, vI (h.fi 2302 o)), (4, vI s3)]) (st' := [vI s3, vA (h.fr 2301 o), vA (some o)]) [(.aload_n 0, 1), (.aload_n 2, 1), (.iload 4, 2)] ⟨dJ12_remove_67, dJ12_remove_68, dJ12_remove_69, rfl⟩ rfl ?_
              have hn11 := hw.1
              replace hw := hw.2
              refine x_cV C 23 74 (mc2 := 0) (ms2 := 0) [vA (h.fr 2301 o), vI s3] [] dJ12_remove_71 rfl (ok_J12_fastRemove hG hw) ⟨Nat.zero_le _, Nat.zero_le _⟩ q2164 q2166 qs68 q175 q2167 rfl hd_J12_fastRemove ⟨rfl, rfl, rfl⟩ hn11 (fun v9 h13 h14 hq9 eh14 => ?_)
              obtain ⟨rfl, hw⟩ := hq9
              replace hw := hw h14 eh14
              refine x_b C (pc' := 75) (L' := [(0, vA (some o)), (1, vA p0), (2, vA (h.fr 2301 o)), (3, vI (h.fi 2302 o)), (4, vI s3)]) (st' := [vI 1]) [(.iconst 1, 1)] ⟨dJ12_remove_74, rfl⟩ rfl ?_
              exact x_zret C dJ12_remove_75 rfl ⟨_, rfl, hw⟩
          rcases hw with hw | hw | hw | hw
          · have hn15 := hw.1
            replace hw := hw.2
            refine x_cU C 22 53 (x := ⟨"java/lang/Object", "equals", "(Ljava/lang/Object;)Z"⟩) (mc2 := 0) (ms2 := 0) [vA (T4.ar (adr (h.fr 2301 o)) (ni s3))] [] dJ12_remove_50 rfl (ok_J2_equals hG hw) ⟨Nat.zero_le _, Nat.zero_le _⟩ q938 q940 q969 q698 q163 q700 (Or.inr (Or.inl q937)) rfl hx_java_lang_Object_equals ⟨rfl, rfl, rfl⟩ hn15 (fun v9 h17 h18 hq9 eh18 => ?_)
            obtain ⟨r16, rfl, hw⟩ := hq9
            exact kj7 r16 h18 (hw h18 eh18)
          · have hn19 := hw.1
            replace hw := hw.2
            refine x_eqO C 6 53 [] dJ12_remove_50 rfl q938 q939 q954 q972 rfl ⟨rfl, rfl, rfl⟩ hn19 ?_
            exact kj7 _ _ hw
          · have hn20 := hw.1
            replace hw := hw.2
            refine x_eqO C 7 53 [] dJ12_remove_50 rfl q938 q939 q950 q972 rfl ⟨rfl, rfl, rfl⟩ hn20 ?_
            exact kj7 _ _ hw
          · have hn21 := hw.1
            replace hw := hw.2
            refine x_eqO C 15 53 [] dJ12_remove_50 rfl q938 q939 q945 q972 rfl ⟨rfl, rfl, rfl⟩ hn21 ?_
            exact kj7 _ _ hw
    exact key3 n3 0 h hI3
  · replace hw := hw.1 hc2
    obtain ⟨I22, ⟨n22, hI22⟩, hB22⟩ := xlp.out hw
    refine x_sub C (L' := [(0, vA (some o)), (2, vA (h.fr 2301 o)), (3, vI (h.fi 2302 o)), (4, vI 0)]) [3, 2, 1, 0] rfl ?_
    have key22 : ∀ (n : Nat) (s22 : Int32) (T23 : AH), I22 n s22 T23 → K 17 [(0, vA (some o)), (2, vA (h.fr 2301 o)), (3, vI (h.fi 2302 o)), (4, vI s22)] [] T23 := by
      intro n
      induction n using Nat.strongRecOn with
      | ind n ih22 =>
        intro s22 T23 hI
        replace hw := hB22 n s22 T23 hI
        refine x_b C (pc' := 20) (L' := [(0, vA (some o)), (2, vA (h.fr 2301 o)), (3, vI (h.fi 2302 o)), (4, vI s22)]) (st' := [vI (h.fi 2302 o), vI s22]) [(.iload 4, 2), (.iload_n 3, 1)] ⟨dJ12_remove_17, dJ12_remove_19, rfl⟩ rfl ?_
        refine x_icmp_ge C 65 23 dJ12_remove_20 rfl rfl (fun hc24 => ?_) (fun hc24 => ?_)
        · replace hw := hw.1 hc24
          refine x_b C (pc' := 66) (L' := [(0, vA (some o)), (2, vA (h.fr 2301 o)), (3, vI (h.fi 2302 o)), (4, vI s22)]) (st' := [vI 0]) [(.iconst 0, 1)] ⟨dJ12_remove_65, rfl⟩ rfl ?_
          exact x_zret C dJ12_remove_66 rfl ⟨_, rfl, hw⟩
        · replace hw := hw.2 hc24
          refine x_b C (pc' := 26) (L' := [(0, vA (some o)), (2, vA (h.fr 2301 o)), (3, vI (h.fi 2302 o)), (4, vI s22)]) (st' := [vI s22, vA (h.fr 2301 o)]) [(.aload_n 2, 1), (.iload 4, 2)] ⟨dJ12_remove_23, dJ12_remove_24, rfl⟩ rfl ?_
          refine x_aald C 44 27 dJ12_remove_26 rfl rfl ⟨rfl, fun _ _ => rfl⟩ hw.1 ?_
          replace hw := hw.2
          refine x_ifnonnull C 33 30 dJ12_remove_27 rfl rfl (fun hc25 => ?_) (fun hc25 => ?_)
          · replace hw := hw.2 hc25
            refine x_b C (pc' := 36) (L' := [(4, vI (s22 + 1)), (0, vA (some o)), (2, vA (h.fr 2301 o)), (3, vI (h.fi 2302 o))]) (st' := []) [(.iinc 4 1, 3)] ⟨dJ12_remove_33, rfl⟩ rfl ?_
            refine x_goto C 17 dJ12_remove_36 rfl ?_
            refine x_sub C (L' := [(0, vA (some o)), (2, vA (h.fr 2301 o)), (3, vI (h.fi 2302 o)), (4, vI (s22 + 1))]) [1, 2, 3, 0] rfl ?_
            obtain ⟨m9, hm9, hw⟩ := hw
            exact ih22 m9 hm9 (s22 + 1) T23 hw
          · replace hw := hw.1 hc25
            refine x_goto C 67 dJ12_remove_30 rfl ?_
            refine x_b C (pc' := 71) (L' := [(0, vA (some o)), (2, vA (h.fr 2301 o)), (3, vI (h.fi 2302 o)), (4, vI s22)]) (st' := [vI s22, vA (h.fr 2301 o), vA (some o)]) [(.aload_n 0, 1), (.aload_n 2, 1), (.iload 4, 2)] ⟨dJ12_remove_67, dJ12_remove_68, dJ12_remove_69, rfl⟩ rfl ?_
            have hn26 := hw.1
            replace hw := hw.2
            refine x_cV C 23 74 (mc2 := 0) (ms2 := 0) [vA (h.fr 2301 o), vI s22] [] dJ12_remove_71 rfl (ok_J12_fastRemove hG hw) ⟨Nat.zero_le _, Nat.zero_le _⟩ q2164 q2166 qs68 q175 q2167 rfl hd_J12_fastRemove ⟨rfl, rfl, rfl⟩ hn26 (fun v9 h28 h29 hq9 eh29 => ?_)
            obtain ⟨rfl, hw⟩ := hq9
            replace hw := hw h29 eh29
            refine x_b C (pc' := 75) (L' := [(0, vA (some o)), (2, vA (h.fr 2301 o)), (3, vI (h.fi 2302 o)), (4, vI s22)]) (st' := [vI 1]) [(.iconst 1, 1)] ⟨dJ12_remove_74, rfl⟩ rfl ?_
            exact x_zret C dJ12_remove_75 rfl ⟨_, rfl, hw⟩
    exact key22 n22 0 h hI22
def wp_J12_set (o : Nat) (p0 : Int32) (p1 : Option Nat) (h : AH) (Q : Option Nat → AH → Prop) : Prop :=
  nn h (some o) 23 ∧
  wp_J15_checkIndex p0 (h.fi 2302 o) (h.srm 0 0) fun r2 h3 => ∀ h4, h4 = h3.srm h.rc h.rs →
  nn h4 (some o) 23 ∧
  wp_J12_elementData o p0 (h4.srm 0 0) fun r6 h7 => ∀ h8, h8 = h7.srm h4.rc h4.rs →
  nn h8 (some o) 23 ∧
  ix h8 (h8.fr 2301 o) 44 p0 ∧
  sto h8 p1 44 ∧
  ∀ h10, h10 = h8.sar (adr (h8.fr 2301 o)) (ni p0) p1 →
  Q r6 h10
theorem hd_J12_set : yJ12_set.cls = RJ12 ∧ yJ12_set.cls ≠ "java/lang/invoke/MethodHandle" ∧ yJ12_set.cls ≠ "java/lang/invoke/VarHandle" ∧ (parseMethodDescriptor yJ12_set.desc).map (fun d => d.parameters.length) = some 2 := by decide +kernel
theorem ok_J12_set {l : Launch} {D : va_G} {s0 : S0} (hG : G0 D s0) {o : Nat} {p0 : Int32} {p1 : Option Nat} {h : AH} {Q : Option Nat → AH → Prop} (hw : wp_J12_set o p0 p1 h Q) : OKm l D s0 yJ12_set cJ12_set 4 (some (.object "java/lang/Object")) 3 103 [vA (some o), vI p0, vA p1] h (QA Q) := by
  refine x_metF hG (by decide +kernel) (own := RJ12) (mn := "set") rfl rfl (L0 := [(0, vA (some o)), (1, vI p0), (2, vA p1)]) rfl rfl ?_
  intro K C
  unfold wp_J12_set at hw
  refine x_b C (pc' := 2) (L' := [(0, vA (some o)), (1, vI p0), (2, vA p1)]) (st' := [vA (some o), vI p0]) [(.iload_n 1, 1), (.aload_n 0, 1)] ⟨dJ12_set_0, dJ12_set_1, rfl⟩ rfl ?_
  have hn1 := hw.1
  replace hw := hw.2
  refine x_get C 23 2 (pc' := 5) (v := vI (h.fi 2302 o)) dJ12_set_2 rfl rfl rfl q652 rfl hn1 ?_
  refine x_cS C 8 (mc2 := 0) (ms2 := 0) [vI p0, vI (h.fi 2302 o)] [] dJ12_set_5 rfl (ok_J15_checkIndex hG hw) ⟨Nat.zero_le _, Nat.zero_le _⟩ q859 q860 q179 q861 hd_J15_checkIndex ⟨rfl, rfl, rfl⟩ (fun v9 h3 h4 hq9 eh4 => ?_)
  obtain ⟨r2, rfl, hw⟩ := hq9
  replace hw := hw h4 eh4
  refine x_b C (pc' := 11) (L' := [(0, vA (some o)), (1, vI p0), (2, vA p1)]) (st' := [vI p0, vA (some o)]) [(.pop, 1), (.aload_n 0, 1), (.iload_n 1, 1)] ⟨dJ12_set_8, dJ12_set_9, dJ12_set_10, rfl⟩ rfl ?_
  have hn5 := hw.1
  replace hw := hw.2
  refine x_cV C 23 14 (mc2 := 0) (ms2 := 0) [vI p0] [] dJ12_set_11 rfl (ok_J12_elementData hG hw) ⟨Nat.zero_le _, Nat.zero_le _⟩ q863 q864 q865 q175 q866 rfl hd_J12_elementData ⟨rfl, rfl, rfl⟩ hn5 (fun v9 h7 h8 hq9 eh8 => ?_)
  obtain ⟨r6, rfl, hw⟩ := hq9
  replace hw := hw h8 eh8
  refine x_b C (pc' := 16) (L' := [(3, vA r6), (0, vA (some o)), (1, vI p0), (2, vA p1)]) (st' := [vA (some o)]) [(.astore_n 3, 1), (.aload_n 0, 1)] ⟨dJ12_set_14, dJ12_set_15, rfl⟩ rfl ?_
  have hn9 := hw.1
  replace hw := hw.2
  refine x_get C 23 1 (pc' := 19) (v := vA (h8.fr 2301 o)) dJ12_set_16 rfl rfl rfl q649 rfl hn9 ?_
  refine x_b C (pc' := 21) (L' := [(3, vA r6), (0, vA (some o)), (1, vI p0), (2, vA p1)]) (st' := [vA p1, vI p0, vA (h8.fr 2301 o)]) [(.iload_n 1, 1), (.aload_n 2, 1)] ⟨dJ12_set_19, dJ12_set_20, rfl⟩ rfl ?_
  refine x_aast C 44 22 dJ12_set_21 rfl rfl rfl hw.1 hw.2.1 (fun h10 eh10 => ?_)
  replace hw := hw.2.2 h10 eh10
  refine x_b C (pc' := 23) (L' := [(3, vA r6), (0, vA (some o)), (1, vI p0), (2, vA p1)]) (st' := [vA r6]) [(.aload_n 3, 1)] ⟨dJ12_set_22, rfl⟩ rfl ?_
  exact x_aret C dJ12_set_23 (Or.inl ⟨_, rfl⟩) ⟨_, rfl, hw⟩
def wp_J12_size (o : Nat) (h : AH) (Q : Int32 → AH → Prop) : Prop :=
  nn h (some o) 23 ∧
  Q (h.fi 2302 o) h
theorem hd_J12_size : yJ12_size.cls = RJ12 ∧ yJ12_size.cls ≠ "java/lang/invoke/MethodHandle" ∧ yJ12_size.cls ≠ "java/lang/invoke/VarHandle" ∧ (parseMethodDescriptor yJ12_size.desc).map (fun d => d.parameters.length) = some 0 := by decide +kernel
theorem ok_J12_size {l : Launch} {D : va_G} {s0 : S0} (hG : G0 D s0) {o : Nat} {h : AH} {Q : Int32 → AH → Prop} (hw : wp_J12_size o h Q) : OKm l D s0 yJ12_size cJ12_size 1 (some .int) 0 0 [vA (some o)] h (QI Q) := by
  refine x_metF hG (by decide +kernel) (own := RJ12) (mn := "size") rfl rfl (L0 := [(0, vA (some o))]) rfl rfl ?_
  intro K C
  unfold wp_J12_size at hw
  refine x_b C (pc' := 1) (L' := [(0, vA (some o))]) (st' := [vA (some o)]) [(.aload_n 0, 1)] ⟨dJ12_size_0, rfl⟩ rfl ?_
  have hn1 := hw.1
  replace hw := hw.2
  refine x_get C 23 2 (pc' := 4) (v := vI (h.fi 2302 o)) dJ12_size_1 rfl rfl rfl q652 rfl hn1 ?_
  exact x_iret C dJ12_size_4 ⟨_, rfl, hw⟩
def wp_J13_init (o : Nat) (h : AH) (Q : AH → Prop) : Prop :=
  nn h (some o) 5 ∧
  ∀ h2, h2 = h.sfr 500 o (some o) →
  ∀ h3, h3 = h2.sfr 501 o (sref (h2.cs 504)) →
  ∀ h4, h4 = h3.sfr 502 o (sref (h3.cs 505)) →
  False
theorem hd_J13_init : yJ13_init.name = "<init>" ∧ yJ13_init.cls ≠ "java/lang/invoke/MethodHandle" ∧ yJ13_init.cls ≠ "java/lang/invoke/VarHandle" ∧ (parseMethodDescriptor yJ13_init.desc).map (fun d => d.parameters.length) = some 0 := by decide +kernel
theorem ok_J13_init {l : Launch} {D : va_G} {s0 : S0} (hG : G0 D s0) {o : Nat} {h : AH} {Q : AH → Prop} (hw : wp_J13_init o h Q) : OKm l D s0 yJ13_init cJ13_init 1 none 1 60 [vA (some o)] h (QV Q) := by
  refine x_metF hG (by decide +kernel) (own := RJ13) (mn := "<init>") rfl rfl (L0 := [(0, vA (some o))]) rfl rfl ?_
  intro K C
  unfold wp_J13_init at hw
  refine x_b C (pc' := 1) (L' := [(0, vA (some o))]) (st' := [vA (some o)]) [(.aload_n 0, 1)] ⟨dJ13_init_0, rfl⟩ rfl ?_
  refine x_objI C 4 [] dJ13_init_1 rfl q740 q208 q209 ⟨rfl, rfl⟩ ?_
  refine x_b C (pc' := 6) (L' := [(0, vA (some o))]) (st' := [vA (some o), vA (some o)]) [(.aload_n 0, 1), (.aload_n 0, 1)] ⟨dJ13_init_4, dJ13_init_5, rfl⟩ rfl ?_
  have hn1 := hw.1
  replace hw := hw.2
  refine x_pA C 5 0 9 dJ13_init_6 rfl rfl rfl rfl q770 (fun _ _ _ => rfl) (rf_n1 _) (rf_f1 _) hn1 (Or.inl rfl) (fun h2 eh2 => ?_)
  replace hw := hw h2 eh2
  refine x_b C (pc' := 10) (L' := [(0, vA (some o))]) (st' := [vA (some o)]) [(.aload_n 0, 1)] ⟨dJ13_init_9, rfl⟩ rfl ?_
  refine x_getsR C 504 13 dJ13_init_10 rfl z_us q741 ?_
  refine x_pA C 5 1 16 dJ13_init_13 rfl rfl rfl rfl q771 (fun _ _ _ => rfl) (rf_n2 _) (rf_f2 _) (nn_eq eh2 hn1 rfl) (Or.inl rfl) (fun h3 eh3 => ?_)
  replace hw := hw h3 eh3
  refine x_b C (pc' := 17) (L' := [(0, vA (some o))]) (st' := [vA (some o)]) [(.aload_n 0, 1)] ⟨dJ13_init_16, rfl⟩ rfl ?_
  refine x_getsR C 505 20 dJ13_init_17 rfl z_ss q743 ?_
  refine x_pA C 5 2 23 dJ13_init_20 rfl rfl rfl rfl q772 (fun _ _ _ => rfl) (rf_n1 _) (rf_f1 _) (nn_eq eh3 (nn_eq eh2 hn1 rfl) rfl) (Or.inl rfl) (fun h4 eh4 => ?_)
  replace hw := hw h4 eh4
  refine x_b C (pc' := 24) (L' := [(0, vA (some o))]) (st' := [vA (some o)]) [(.aload_n 0, 1)] ⟨dJ13_init_23, rfl⟩ rfl ?_
  exact hw.elim
def wp_J13_init_2 (o : Nat) (p0 : Option Nat) (p1 : Option Nat) (p2 : Int32) (p3 : Int32) (h : AH) (Q : AH → Prop) : Prop :=
  nn h (some o) 5 ∧
  ∀ h2, h2 = h.sfr 500 o (some o) →
  ∀ h3, h3 = h2.sfr 501 o (sref (h2.cs 504)) →
  ∀ h4, h4 = h3.sfr 502 o (sref (h3.cs 505)) →
  ((p3 = 0 →
  ∀ h6, h6 = h4.sfr 501 o none →
  ∀ h7, h7 = h6.sfr 503 o p0 →
  ∀ h8, h8 = h7.sfr 500 o p1 →
  ((p2 = 0 →
  ∀ h10, h10 = h8.sfr 502 o none →
  Q h10) ∧ (¬ p2 = 0 →
  Q h8))) ∧ (¬ p3 = 0 →
  False))
theorem hd_J13_init_2 : yJ13_init_2.name = "<init>" ∧ yJ13_init_2.cls ≠ "java/lang/invoke/MethodHandle" ∧ yJ13_init_2.cls ≠ "java/lang/invoke/VarHandle" ∧ (parseMethodDescriptor yJ13_init_2.desc).map (fun d => d.parameters.length) = some 4 := by decide +kernel
theorem ok_J13_init_2 {l : Launch} {D : va_G} {s0 : S0} (hG : G0 D s0) {o : Nat} {p0 : Option Nat} {p1 : Option Nat} {p2 : Int32} {p3 : Int32} {h : AH} {Q : AH → Prop} (hw : wp_J13_init_2 o p0 p1 p2 p3 h Q) : OKm l D s0 yJ13_init_2 cJ13_init_2 5 none 1 60 [vA (some o), vA p0, vA p1, vI p2, vI p3] h (QV Q) := by
  refine x_metF hG (by decide +kernel) (own := RJ13) (mn := "<init>") rfl rfl (L0 := [(0, vA (some o)), (1, vA p0), (2, vA p1), (3, vI p2), (4, vI p3)]) rfl rfl ?_
  intro K C
  unfold wp_J13_init_2 at hw
  refine x_b C (pc' := 1) (L' := [(0, vA (some o)), (1, vA p0), (2, vA p1), (3, vI p2), (4, vI p3)]) (st' := [vA (some o)]) [(.aload_n 0, 1)] ⟨dJ13_init_2_0, rfl⟩ rfl ?_
  refine x_objI C 4 [] dJ13_init_2_1 rfl q740 q208 q209 ⟨rfl, rfl⟩ ?_
  refine x_b C (pc' := 6) (L' := [(0, vA (some o)), (1, vA p0), (2, vA p1), (3, vI p2), (4, vI p3)]) (st' := [vA (some o), vA (some o)]) [(.aload_n 0, 1), (.aload_n 0, 1)] ⟨dJ13_init_2_4, dJ13_init_2_5, rfl⟩ rfl ?_
  have hn1 := hw.1
  replace hw := hw.2
  refine x_pA C 5 0 9 dJ13_init_2_6 rfl rfl rfl rfl q770 (fun _ _ _ => rfl) (rf_n1 _) (rf_f1 _) hn1 (Or.inl rfl) (fun h2 eh2 => ?_)
  replace hw := hw h2 eh2
  refine x_b C (pc' := 10) (L' := [(0, vA (some o)), (1, vA p0), (2, vA p1), (3, vI p2), (4, vI p3)]) (st' := [vA (some o)]) [(.aload_n 0, 1)] ⟨dJ13_init_2_9, rfl⟩ rfl ?_
  refine x_getsR C 504 13 dJ13_init_2_10 rfl z_us q741 ?_
  refine x_pA C 5 1 16 dJ13_init_2_13 rfl rfl rfl rfl q771 (fun _ _ _ => rfl) (rf_n2 _) (rf_f2 _) (nn_eq eh2 hn1 rfl) (Or.inl rfl) (fun h3 eh3 => ?_)
  replace hw := hw h3 eh3
  refine x_b C (pc' := 17) (L' := [(0, vA (some o)), (1, vA p0), (2, vA p1), (3, vI p2), (4, vI p3)]) (st' := [vA (some o)]) [(.aload_n 0, 1)] ⟨dJ13_init_2_16, rfl⟩ rfl ?_
  refine x_getsR C 505 20 dJ13_init_2_17 rfl z_ss q743 ?_
  refine x_pA C 5 2 23 dJ13_init_2_20 rfl rfl rfl rfl q772 (fun _ _ _ => rfl) (rf_n1 _) (rf_f1 _) (nn_eq eh3 (nn_eq eh2 hn1 rfl) rfl) (Or.inl rfl) (fun h4 eh4 => ?_)
  replace hw := hw h4 eh4
  refine x_b C (pc' := 25) (L' := [(0, vA (some o)), (1, vA p0), (2, vA p1), (3, vI p2), (4, vI p3)]) (st' := [vI p3]) [(.iload 4, 2)] ⟨dJ13_init_2_23, rfl⟩ rfl ?_
  refine x_if_eq C 36 28 dJ13_init_2_25 rfl rfl (fun hc5 => ?_) (fun hc5 => ?_)
  · replace hw := hw.1 hc5
    refine x_b C (pc' := 38) (L' := [(0, vA (some o)), (1, vA p0), (2, vA p1), (3, vI p2), (4, vI p3)]) (st' := [vA none, vA (some o)]) [(.aload_n 0, 1), (.aconst_null, 1)] ⟨dJ13_init_2_36, dJ13_init_2_37, rfl⟩ rfl ?_
    refine x_pA C 5 1 41 dJ13_init_2_38 rfl rfl rfl rfl q771 (fun _ _ _ => rfl) (rf_n2 _) (rf_f2 _) (nn_eq eh4 (nn_eq eh3 (nn_eq eh2 hn1 rfl) rfl) rfl) (Or.inl rfl) (fun h6 eh6 => ?_)
    replace hw := hw h6 eh6
    refine x_b C (pc' := 43) (L' := [(0, vA (some o)), (1, vA p0), (2, vA p1), (3, vI p2), (4, vI p3)]) (st' := [vA p0, vA (some o)]) [(.aload_n 0, 1), (.aload_n 1, 1)] ⟨dJ13_init_2_41, dJ13_init_2_42, rfl⟩ rfl ?_
    refine x_pA C 5 3 46 dJ13_init_2_43 rfl rfl rfl rfl q769 (fun _ _ _ => rfl) (rf_n1 _) (rf_f1 _) (nn_eq eh6 (nn_eq eh4 (nn_eq eh3 (nn_eq eh2 hn1 rfl) rfl) rfl) rfl) (Or.inl rfl) (fun h7 eh7 => ?_)
    replace hw := hw h7 eh7
    refine x_b C (pc' := 48) (L' := [(0, vA (some o)), (1, vA p0), (2, vA p1), (3, vI p2), (4, vI p3)]) (st' := [vA p1, vA (some o)]) [(.aload_n 0, 1), (.aload_n 2, 1)] ⟨dJ13_init_2_46, dJ13_init_2_47, rfl⟩ rfl ?_
    refine x_pA C 5 0 51 dJ13_init_2_48 rfl rfl rfl rfl q770 (fun _ _ _ => rfl) (rf_n1 _) (rf_f1 _) (nn_eq eh7 (nn_eq eh6 (nn_eq eh4 (nn_eq eh3 (nn_eq eh2 hn1 rfl) rfl) rfl) rfl) rfl) (Or.inl rfl) (fun h8 eh8 => ?_)
    replace hw := hw h8 eh8
    refine x_b C (pc' := 52) (L' := [(0, vA (some o)), (1, vA p0), (2, vA p1), (3, vI p2), (4, vI p3)]) (st' := [vI p2]) [(.iload_n 3, 1)] ⟨dJ13_init_2_51, rfl⟩ rfl ?_
    refine x_if_ne C 60 55 dJ13_init_2_52 rfl rfl (fun hc9 => ?_) (fun hc9 => ?_)
    · replace hw := hw.2 hc9
      exact x_vret C dJ13_init_2_60 ⟨rfl, hw⟩
    · replace hw := hw.1 hc9
      refine x_b C (pc' := 57) (L' := [(0, vA (some o)), (1, vA p0), (2, vA p1), (3, vI p2), (4, vI p3)]) (st' := [vA none, vA (some o)]) [(.aload_n 0, 1), (.aconst_null, 1)] ⟨dJ13_init_2_55, dJ13_init_2_56, rfl⟩ rfl ?_
      refine x_pA C 5 2 60 dJ13_init_2_57 rfl rfl rfl rfl q772 (fun _ _ _ => rfl) (rf_n1 _) (rf_f1 _) (nn_eq eh8 (nn_eq eh7 (nn_eq eh6 (nn_eq eh4 (nn_eq eh3 (nn_eq eh2 hn1 rfl) rfl) rfl) rfl) rfl) rfl) (Or.inl rfl) (fun h10 eh10 => ?_)
      replace hw := hw h10 eh10
      exact x_vret C dJ13_init_2_60 ⟨rfl, hw⟩
  · replace hw := hw.2 hc5
    refine x_b C (pc' := 29) (L' := [(0, vA (some o)), (1, vA p0), (2, vA p1), (3, vI p2), (4, vI p3)]) (st' := [vA (some o)]) [(.aload_n 0, 1)] ⟨dJ13_init_2_28, rfl⟩ rfl ?_
    exact hw.elim
def wp_J14_init (o : Nat) (p0 : Option Nat) (p1 : Option Nat) (p2 : Int32) (p3 : Int32) (h : AH) (Q : AH → Prop) : Prop :=
  wp_J13_init_2 o p0 p1 p2 p3 (h.srm 0 0) fun h2 => ∀ h3, h3 = h2.srm h.rc h.rs →
  Q h3
theorem hd_J14_init : yJ14_init.name = "<init>" ∧ yJ14_init.cls ≠ "java/lang/invoke/MethodHandle" ∧ yJ14_init.cls ≠ "java/lang/invoke/VarHandle" ∧ (parseMethodDescriptor yJ14_init.desc).map (fun d => d.parameters.length) = some 4 := by decide +kernel
theorem ok_J14_init {l : Launch} {D : va_G} {s0 : S0} (hG : G0 D s0) {o : Nat} {p0 : Option Nat} {p1 : Option Nat} {p2 : Int32} {p3 : Int32} {h : AH} {Q : AH → Prop} (hw : wp_J14_init o p0 p1 p2 p3 h Q) : OKm l D s0 yJ14_init cJ14_init 5 none 2 84 [vA (some o), vA p0, vA p1, vI p2, vI p3] h (QV Q) := by
  refine x_metF hG (by decide +kernel) (own := RJ14) (mn := "<init>") rfl rfl (L0 := [(0, vA (some o)), (1, vA p0), (2, vA p1), (3, vI p2), (4, vI p3)]) rfl rfl ?_
  intro K C
  unfold wp_J14_init at hw
  refine x_b C (pc' := 6) (L' := [(0, vA (some o)), (1, vA p0), (2, vA p1), (3, vI p2), (4, vI p3)]) (st' := [vI p3, vI p2, vA p1, vA p0, vA (some o)]) [(.aload_n 0, 1), (.aload_n 1, 1), (.aload_n 2, 1), (.iload_n 3, 1), (.iload 4, 2)] ⟨dJ14_init_0, dJ14_init_1, dJ14_init_2, dJ14_init_3, dJ14_init_4, rfl⟩ rfl ?_
  refine x_cI C 9 (mc2 := 0) (ms2 := 0) [vA p0, vA p1, vI p2, vI p3] [] dJ14_init_6 rfl (ok_J13_init_2 hG hw) ⟨Nat.zero_le _, Nat.zero_le _⟩ q761 q762 q176 q763 hd_J13_init_2 ⟨rfl, rfl, rfl⟩ (fun v9 h2 h3 hq9 eh3 => ?_)
  obtain ⟨rfl, hw⟩ := hq9
  replace hw := hw h3 eh3
  exact x_vret C dJ14_init_9 ⟨rfl, hw⟩
def wp_J14_init_2 (o : Nat) (h : AH) (Q : AH → Prop) : Prop :=
  wp_J13_init o (h.srm 0 0) fun h2 => ∀ h3, h3 = h2.srm h.rc h.rs →
  Q h3
theorem hd_J14_init_2 : yJ14_init_2.name = "<init>" ∧ yJ14_init_2.cls ≠ "java/lang/invoke/MethodHandle" ∧ yJ14_init_2.cls ≠ "java/lang/invoke/VarHandle" ∧ (parseMethodDescriptor yJ14_init_2.desc).map (fun d => d.parameters.length) = some 0 := by decide +kernel
theorem ok_J14_init_2 {l : Launch} {D : va_G} {s0 : S0} (hG : G0 D s0) {o : Nat} {h : AH} {Q : AH → Prop} (hw : wp_J14_init_2 o h Q) : OKm l D s0 yJ14_init_2 cJ14_init_2 1 none 2 80 [vA (some o)] h (QV Q) := by
  refine x_metF hG (by decide +kernel) (own := RJ14) (mn := "<init>") rfl rfl (L0 := [(0, vA (some o))]) rfl rfl ?_
  intro K C
  unfold wp_J14_init_2 at hw
  refine x_b C (pc' := 1) (L' := [(0, vA (some o))]) (st' := [vA (some o)]) [(.aload_n 0, 1)] ⟨dJ14_init_2_0, rfl⟩ rfl ?_
  refine x_cI C 4 (mc2 := 0) (ms2 := 0) [] [] dJ14_init_2_1 rfl (ok_J13_init hG hw) ⟨Nat.zero_le _, Nat.zero_le _⟩ q1360 q738 q176 q739 hd_J13_init ⟨rfl, rfl, rfl⟩ (fun v9 h2 h3 hq9 eh3 => ?_)
  obtain ⟨rfl, hw⟩ := hq9
  replace hw := hw h3 eh3
  exact x_vret C dJ14_init_2_4 ⟨rfl, hw⟩
def wp_J16_checkForComodification (o : Nat) (h : AH) (Q : AH → Prop) : Prop :=
  nn h (some o) 24 ∧
  nn h (h.fr 2403 o) 23 ∧
  (((h.fi 2300 (adr (h.fr 2403 o))) = (h.fi 2402 o) →
  Q h) ∧ (¬ (h.fi 2300 (adr (h.fr 2403 o))) = (h.fi 2402 o) →
  False))
theorem hd_J16_checkForComodification : yJ16_checkForComodification.cls = RJ16 ∧ yJ16_checkForComodification.cls ≠ "java/lang/invoke/MethodHandle" ∧ yJ16_checkForComodification.cls ≠ "java/lang/invoke/VarHandle" ∧ (parseMethodDescriptor yJ16_checkForComodification.desc).map (fun d => d.parameters.length) = some 0 := by decide +kernel
theorem ok_J16_checkForComodification {l : Launch} {D : va_G} {s0 : S0} (hG : G0 D s0) {o : Nat} {h : AH} {Q : AH → Prop} (hw : wp_J16_checkForComodification o h Q) : OKm l D s0 yJ16_checkForComodification cJ16_checkForComodification 1 none 1 60 [vA (some o)] h (QV Q) := by
  refine x_metF hG (by decide +kernel) (own := RJ16) (mn := "checkForComodification") rfl rfl (L0 := [(0, vA (some o))]) rfl rfl ?_
  intro K C
  unfold wp_J16_checkForComodification at hw
  refine x_b C (pc' := 1) (L' := [(0, vA (some o))]) (st' := [vA (some o)]) [(.aload_n 0, 1)] ⟨dJ16_checkForComodification_0, rfl⟩ rfl ?_
  have hn1 := hw.1
  replace hw := hw.2
  refine x_get C 24 3 (pc' := 4) (v := vA (h.fr 2403 o)) dJ16_checkForComodification_1 rfl rfl rfl q1297 rfl hn1 ?_
  have hn2 := hw.1
  replace hw := hw.2
  refine x_getS C 23 0 (pc' := 7) (v := vI (h.fi 2300 (adr (h.fr 2403 o)))) dJ16_checkForComodification_4 rfl rfl rfl q654 q655 rfl hn2 ?_
  refine x_b C (pc' := 8) (L' := [(0, vA (some o))]) (st' := [vA (some o), vI (h.fi 2300 (adr (h.fr 2403 o)))]) [(.aload_n 0, 1)] ⟨dJ16_checkForComodification_7, rfl⟩ rfl ?_
  refine x_get C 24 2 (pc' := 11) (v := vI (h.fi 2402 o)) dJ16_checkForComodification_8 rfl rfl rfl q1296 rfl hn1 ?_
  refine x_icmp_eq C 22 14 dJ16_checkForComodification_11 rfl rfl (fun hc3 => ?_) (fun hc3 => ?_)
  · replace hw := hw.1 hc3
    exact x_vret C dJ16_checkForComodification_22 ⟨rfl, hw⟩
  · replace hw := hw.2 hc3
    exact hw.elim
def wp_J16_hasNext (o : Nat) (h : AH) (Q : Int32 → AH → Prop) : Prop :=
  nn h (some o) 24 ∧
  nn h (h.fr 2403 o) 23 ∧
  ∀ m3 : Int32, m3 = (if (h.fi 2400 o) = (h.fi 2302 (adr (h.fr 2403 o))) then 0 else 1) →
  bz m3 ∧ Q m3 h
theorem hd_J16_hasNext : yJ16_hasNext.cls = RJ16 ∧ yJ16_hasNext.cls ≠ "java/lang/invoke/MethodHandle" ∧ yJ16_hasNext.cls ≠ "java/lang/invoke/VarHandle" ∧ (parseMethodDescriptor yJ16_hasNext.desc).map (fun d => d.parameters.length) = some 0 := by decide +kernel
theorem ok_J16_hasNext {l : Launch} {D : va_G} {s0 : S0} (hG : G0 D s0) {o : Nat} {h : AH} {Q : Int32 → AH → Prop} (hw : wp_J16_hasNext o h Q) : OKm l D s0 yJ16_hasNext cJ16_hasNext 1 (some .boolean) 0 0 [vA (some o)] h (QI Q) := by
  refine x_metF hG (by decide +kernel) (own := RJ16) (mn := "hasNext") rfl rfl (L0 := [(0, vA (some o))]) rfl rfl ?_
  intro K C
  unfold wp_J16_hasNext at hw
  refine x_b C (pc' := 1) (L' := [(0, vA (some o))]) (st' := [vA (some o)]) [(.aload_n 0, 1)] ⟨dJ16_hasNext_0, rfl⟩ rfl ?_
  have hn1 := hw.1
  replace hw := hw.2
  refine x_get C 24 0 (pc' := 4) (v := vI (h.fi 2400 o)) dJ16_hasNext_1 rfl rfl rfl q1294 rfl hn1 ?_
  refine x_b C (pc' := 5) (L' := [(0, vA (some o))]) (st' := [vA (some o), vI (h.fi 2400 o)]) [(.aload_n 0, 1)] ⟨dJ16_hasNext_4, rfl⟩ rfl ?_
  refine x_get C 24 3 (pc' := 8) (v := vA (h.fr 2403 o)) dJ16_hasNext_5 rfl rfl rfl q1297 rfl hn1 ?_
  have hn2 := hw.1
  replace hw := hw.2
  refine x_getN C 23 2 (pc' := 11) (v := vI (h.fi 2302 (adr (h.fr 2403 o)))) dJ16_hasNext_8 rfl rfl rfl q651 rfl hn2 ?_
  have kj4 : ∀ (m3 : Int32), m3 = (if (h.fi 2400 o) = (h.fi 2302 (adr (h.fr 2403 o))) then 0 else 1) → K 19 [] [vI m3] h := by
    intro m3 em3
    replace hw := hw m3 em3
    exact x_zret C dJ16_hasNext_19 (bz_n hw.1) ⟨_, rfl, hw.2⟩
  refine x_icmp_eq C 18 14 dJ16_hasNext_11 rfl rfl (fun hc5 => ?_) (fun hc5 => ?_)
  · refine x_b C (pc' := 19) (L' := [(0, vA (some o))]) (st' := [vI 0]) [(.iconst 0, 1)] ⟨dJ16_hasNext_18, rfl⟩ rfl ?_
    refine x_sub C (L' := []) [] rfl ?_
    exact kj4 _ ((if_pos hc5).symm)
  · refine x_b C (pc' := 15) (L' := [(0, vA (some o))]) (st' := [vI 1]) [(.iconst 1, 1)] ⟨dJ16_hasNext_14, rfl⟩ rfl ?_
    refine x_goto C 19 dJ16_hasNext_15 rfl ?_
    refine x_sub C (L' := []) [] rfl ?_
    exact kj4 _ ((if_neg hc5).symm)
def wp_J16_next (o : Nat) (h : AH) (Q : Option Nat → AH → Prop) : Prop :=
  nn h (some o) 24 ∧
  cl h fun mc5 ms6 => wp_J16_checkForComodification o (h.srm mc5 ms6) fun h3 => ∀ h4, h4 = h3.srm (h.rc - mc5) (h.rs - ms6) →
  nn h4 (some o) 24 ∧
  nn h4 (h4.fr 2403 o) 23 ∧
  (((h4.fi 2400 o) < (h4.fi 2302 (adr (h4.fr 2403 o))) →
  nn h4 (h4.fr 2301 (adr (h4.fr 2403 o))) 44 ∧
  (((h4.fi 2400 o) < (nI (h4.kd (adr (h4.fr 2301 (adr (h4.fr 2403 o))))).2) →
  ∀ h13, h13 = h4.sfi 2400 o ((h4.fi 2400 o) + 1) →
  ∀ h14, h14 = h13.sfi 2401 o (h4.fi 2400 o) →
  ix h14 (h4.fr 2301 (adr (h4.fr 2403 o))) 44 (h4.fi 2400 o) ∧
  Q (h14.ar (adr (h4.fr 2301 (adr (h4.fr 2403 o)))) (ni (h4.fi 2400 o))) h14) ∧ (¬ (h4.fi 2400 o) < (nI (h4.kd (adr (h4.fr 2301 (adr (h4.fr 2403 o))))).2) →
  False))) ∧ (¬ (h4.fi 2400 o) < (h4.fi 2302 (adr (h4.fr 2403 o))) →
  False))
theorem hd_J16_next : yJ16_next.cls = RJ16 ∧ yJ16_next.cls ≠ "java/lang/invoke/MethodHandle" ∧ yJ16_next.cls ≠ "java/lang/invoke/VarHandle" ∧ (parseMethodDescriptor yJ16_next.desc).map (fun d => d.parameters.length) = some 0 := by decide +kernel
theorem ok_J16_next {l : Launch} {D : va_G} {s0 : S0} (hG : G0 D s0) {o : Nat} {h : AH} {Q : Option Nat → AH → Prop} (hw : wp_J16_next o h Q) : OKm l D s0 yJ16_next cJ16_next 3 (some (.object "java/lang/Object")) 2 80 [vA (some o)] h (QA Q) := by
  refine x_metF hG (by decide +kernel) (own := RJ16) (mn := "next") rfl rfl (L0 := [(0, vA (some o))]) rfl rfl ?_
  intro K C
  unfold wp_J16_next at hw
  refine x_b C (pc' := 1) (L' := [(0, vA (some o))]) (st' := [vA (some o)]) [(.aload_n 0, 1)] ⟨dJ16_next_0, rfl⟩ rfl ?_
  have hn1 := hw.1
  replace hw := hw.2
  obtain ⟨mc5, ms6, hle7, hw⟩ := hw
  refine x_cV C 24 4 (mc2 := mc5) (ms2 := ms6) [] [] dJ16_next_1 rfl (ok_J16_checkForComodification hG hw) hle7 q1368 q1369 q1370 q188 q1371 rfl hd_J16_checkForComodification ⟨rfl, rfl, rfl⟩ hn1 (fun v9 h3 h4 hq9 eh4 => ?_)
  obtain ⟨rfl, hw⟩ := hq9
  replace hw := hw h4 eh4
  refine x_b C (pc' := 5) (L' := [(0, vA (some o))]) (st' := [vA (some o)]) [(.aload_n 0, 1)] ⟨dJ16_next_4, rfl⟩ rfl ?_
  have hn8 := hw.1
  replace hw := hw.2
  refine x_get C 24 0 (pc' := 8) (v := vI (h4.fi 2400 o)) dJ16_next_5 rfl rfl rfl q1294 rfl hn8 ?_
  refine x_b C (pc' := 11) (L' := [(1, vI (h4.fi 2400 o)), (0, vA (some o))]) (st' := [vA (some o), vI (h4.fi 2400 o)]) [(.istore_n 1, 1), (.iload_n 1, 1), (.aload_n 0, 1)] ⟨dJ16_next_8, dJ16_next_9, dJ16_next_10, rfl⟩ rfl ?_
  refine x_get C 24 3 (pc' := 14) (v := vA (h4.fr 2403 o)) dJ16_next_11 rfl rfl rfl q1297 rfl hn8 ?_
  have hn9 := hw.1
  replace hw := hw.2
  refine x_getN C 23 2 (pc' := 17) (v := vI (h4.fi 2302 (adr (h4.fr 2403 o)))) dJ16_next_14 rfl rfl rfl q651 rfl hn9 ?_
  refine x_icmp_lt C 28 20 dJ16_next_17 rfl rfl (fun hc10 => ?_) (fun hc10 => ?_)
  · replace hw := hw.1 hc10
    refine x_b C (pc' := 29) (L' := [(1, vI (h4.fi 2400 o)), (0, vA (some o))]) (st' := [vA (some o)]) [(.aload_n 0, 1)] ⟨dJ16_next_28, rfl⟩ rfl ?_
    refine x_get C 24 3 (pc' := 32) (v := vA (h4.fr 2403 o)) dJ16_next_29 rfl rfl rfl q1297 rfl hn8 ?_
    refine x_get C 23 1 (pc' := 35) (v := vA (h4.fr 2301 (adr (h4.fr 2403 o)))) dJ16_next_32 rfl rfl rfl q650 rfl hn9 ?_
    refine x_b C (pc' := 38) (L' := [(2, vA (h4.fr 2301 (adr (h4.fr 2403 o)))), (1, vI (h4.fi 2400 o)), (0, vA (some o))]) (st' := [vA (h4.fr 2301 (adr (h4.fr 2403 o))), vI (h4.fi 2400 o)]) [(.astore_n 2, 1), (.iload_n 1, 1), (.aload_n 2, 1)] ⟨dJ16_next_35, dJ16_next_36, dJ16_next_37, rfl⟩ rfl ?_
    have hn11 := hw.1
    replace hw := hw.2
    refine x_alen C 44 39 dJ16_next_38 rfl rfl hn11 ?_
    refine x_icmp_lt C 50 42 dJ16_next_39 rfl rfl (fun hc12 => ?_) (fun hc12 => ?_)
    · replace hw := hw.1 hc12
      refine x_b C (pc' := 54) (L' := [(2, vA (h4.fr 2301 (adr (h4.fr 2403 o)))), (1, vI (h4.fi 2400 o)), (0, vA (some o))]) (st' := [vI ((h4.fi 2400 o) + 1), vA (some o)]) [(.aload_n 0, 1), (.iload_n 1, 1), (.iconst 1, 1), (.iadd, 1)] ⟨dJ16_next_50, dJ16_next_51, dJ16_next_52, dJ16_next_53, rfl⟩ rfl ?_
      refine x_pI C 24 0 57 dJ16_next_54 rfl rfl rfl rfl q1294 (fun _ _ _ => rfl) rfl rfl hn8 (Or.inl rfl) (fun h13 eh13 => ?_)
      replace hw := hw h13 eh13
      refine x_b C (pc' := 61) (L' := [(2, vA (h4.fr 2301 (adr (h4.fr 2403 o)))), (1, vI (h4.fi 2400 o)), (0, vA (some o))]) (st' := [vI (h4.fi 2400 o), vA (some o), vI (h4.fi 2400 o), vA (h4.fr 2301 (adr (h4.fr 2403 o)))]) [(.aload_n 2, 1), (.aload_n 0, 1), (.iload_n 1, 1), (.dup_x1, 1)] ⟨dJ16_next_57, dJ16_next_58, dJ16_next_59, dJ16_next_60, rfl⟩ rfl ?_
      refine x_pI C 24 1 64 dJ16_next_61 rfl rfl rfl rfl q1295 (fun _ _ _ => rfl) rfl rfl (nn_eq eh13 hn8 rfl) (Or.inl rfl) (fun h14 eh14 => ?_)
      replace hw := hw h14 eh14
      refine x_aald C 44 65 dJ16_next_64 rfl rfl ⟨rfl, fun _ _ => rfl⟩ hw.1 ?_
      replace hw := hw.2
      exact x_aret C dJ16_next_65 (Or.inl ⟨_, rfl⟩) ⟨_, rfl, hw⟩
    · replace hw := hw.2 hc12
      exact hw.elim
  · replace hw := hw.2 hc10
    exact hw.elim
def wp_J17_init (o : Nat) (h : AH) (Q : AH → Prop) : Prop :=
  wp_J14_init_2 o (h.srm 0 0) fun h2 => ∀ h3, h3 = h2.srm h.rc h.rs →
  Q h3
theorem hd_J17_init : yJ17_init.name = "<init>" ∧ yJ17_init.cls ≠ "java/lang/invoke/MethodHandle" ∧ yJ17_init.cls ≠ "java/lang/invoke/VarHandle" ∧ (parseMethodDescriptor yJ17_init.desc).map (fun d => d.parameters.length) = some 0 := by decide +kernel
theorem ok_J17_init {l : Launch} {D : va_G} {s0 : S0} (hG : G0 D s0) {o : Nat} {h : AH} {Q : AH → Prop} (hw : wp_J17_init o h Q) : OKm l D s0 yJ17_init cJ17_init 1 none 3 100 [vA (some o)] h (QV Q) := by
  refine x_metF hG (by decide +kernel) (own := RJ17) (mn := "<init>") rfl rfl (L0 := [(0, vA (some o))]) rfl rfl ?_
  intro K C
  unfold wp_J17_init at hw
  refine x_b C (pc' := 1) (L' := [(0, vA (some o))]) (st' := [vA (some o)]) [(.aload_n 0, 1)] ⟨dJ17_init_0, rfl⟩ rfl ?_
  refine x_cI C 4 (mc2 := 0) (ms2 := 0) [] [] dJ17_init_1 rfl (ok_J14_init_2 hG hw) ⟨Nat.zero_le _, Nat.zero_le _⟩ q1357 q1358 q177 q1359 hd_J14_init_2 ⟨rfl, rfl, rfl⟩ (fun v9 h2 h3 hq9 eh3 => ?_)
  obtain ⟨rfl, hw⟩ := hq9
  replace hw := hw h3 eh3
  exact x_vret C dJ17_init_4 ⟨rfl, hw⟩
def wp_J18_init (o : Nat) (h : AH) (Q : AH → Prop) : Prop :=
  wp_J17_init o (h.srm 0 0) fun h2 => ∀ h3, h3 = h2.srm h.rc h.rs →
  Q h3
theorem hd_J18_init : yJ18_init.name = "<init>" ∧ yJ18_init.cls ≠ "java/lang/invoke/MethodHandle" ∧ yJ18_init.cls ≠ "java/lang/invoke/VarHandle" ∧ (parseMethodDescriptor yJ18_init.desc).map (fun d => d.parameters.length) = some 0 := by decide +kernel
theorem ok_J18_init {l : Launch} {D : va_G} {s0 : S0} (hG : G0 D s0) {o : Nat} {h : AH} {Q : AH → Prop} (hw : wp_J18_init o h Q) : OKm l D s0 yJ18_init cJ18_init 1 none 4 120 [vA (some o)] h (QV Q) := by
  refine x_metF hG (by decide +kernel) (own := RJ18) (mn := "<init>") rfl rfl (L0 := [(0, vA (some o))]) rfl rfl ?_
  intro K C
  unfold wp_J18_init at hw
  refine x_b C (pc' := 1) (L' := [(0, vA (some o))]) (st' := [vA (some o)]) [(.aload_n 0, 1)] ⟨dJ18_init_0, rfl⟩ rfl ?_
  refine x_cI C 4 (mc2 := 0) (ms2 := 0) [] [] dJ18_init_1 rfl (ok_J17_init hG hw) ⟨Nat.zero_le _, Nat.zero_le _⟩ q1354 q1355 q189 q1356 hd_J17_init ⟨rfl, rfl, rfl⟩ (fun v9 h2 h3 hq9 eh3 => ?_)
  obtain ⟨rfl, hw⟩ := hq9
  replace hw := hw h3 eh3
  exact x_vret C dJ18_init_4 ⟨rfl, hw⟩
def wp_J19_init (o : Nat) (h : AH) (Q : AH → Prop) : Prop :=
  Q h
theorem hd_J19_init : yJ19_init.name = "<init>" ∧ yJ19_init.cls ≠ "java/lang/invoke/MethodHandle" ∧ yJ19_init.cls ≠ "java/lang/invoke/VarHandle" ∧ (parseMethodDescriptor yJ19_init.desc).map (fun d => d.parameters.length) = some 0 := by decide +kernel
theorem ok_J19_init {l : Launch} {D : va_G} {s0 : S0} (hG : G0 D s0) {o : Nat} {h : AH} {Q : AH → Prop} (hw : wp_J19_init o h Q) : OKm l D s0 yJ19_init cJ19_init 1 none 1 60 [vA (some o)] h (QV Q) := by
  refine x_metF hG (by decide +kernel) (own := RJ19) (mn := "<init>") rfl rfl (L0 := [(0, vA (some o))]) rfl rfl ?_
  intro K C
  unfold wp_J19_init at hw
  refine x_b C (pc' := 1) (L' := [(0, vA (some o))]) (st' := [vA (some o)]) [(.aload_n 0, 1)] ⟨dJ19_init_0, rfl⟩ rfl ?_
  refine x_objI C 4 [] dJ19_init_1 rfl q1578 q208 q209 ⟨rfl, rfl⟩ ?_
  exact x_vret C dJ19_init_4 ⟨rfl, hw⟩
def wp_J1_append (o : Nat) (p0 : Int32) (h : AH) (Q : Option Nat → AH → Prop) : Prop :=
  nn h (some o) 21 ∧
  cl h fun mc5 ms6 => wp_J0_append o p0 (h.srm mc5 ms6) fun r2 h3 => ∀ h4, h4 = h3.srm (h.rc - mc5) (h.rs - ms6) →
  Q (some o) h4
theorem hd_J1_append : yJ1_append.cls = RJ1 ∧ yJ1_append.cls ≠ "java/lang/invoke/MethodHandle" ∧ yJ1_append.cls ≠ "java/lang/invoke/VarHandle" ∧ (parseMethodDescriptor yJ1_append.desc).map (fun d => d.parameters.length) = some 1 := by decide +kernel
theorem ok_J1_append {l : Launch} {D : va_G} {s0 : S0} (hG : G0 D s0) {o : Nat} {p0 : Int32} {h : AH} {Q : Option Nat → AH → Prop} (hw : wp_J1_append o p0 h Q) : OKm l D s0 yJ1_append cJ1_append 2 (some (.object "java/lang/StringBuilder")) 8 218 [vA (some o), vI p0] h (QA Q) := by
  refine x_metF hG (by decide +kernel) (own := RJ1) (mn := "append") rfl rfl (L0 := [(0, vA (some o)), (1, vI p0)]) rfl rfl ?_
  intro K C
  unfold wp_J1_append at hw
  refine x_b C (pc' := 2) (L' := [(0, vA (some o)), (1, vI p0)]) (st' := [vI p0, vA (some o)]) [(.aload_n 0, 1), (.iload_n 1, 1)] ⟨dJ1_append_0, dJ1_append_1, rfl⟩ rfl ?_
  have hn1 := hw.1
  replace hw := hw.2
  obtain ⟨mc5, ms6, hle7, hw⟩ := hw
  refine x_cSU C 21 5 (mc2 := mc5) (ms2 := ms6) [vI p0] [] dJ1_append_2 rfl (ok_J0_append hG hw) hle7 q360 q2921 q355 q361 q161 q362 rfl hs_J0_append ⟨rfl, rfl, rfl⟩ hn1 (fun v9 h3 h4 hq9 eh4 => ?_)
  obtain ⟨r2, rfl, hw⟩ := hq9
  replace hw := hw h4 eh4
  refine x_b C (pc' := 7) (L' := [(0, vA (some o)), (1, vI p0)]) (st' := [vA (some o)]) [(.pop, 1), (.aload_n 0, 1)] ⟨dJ1_append_5, dJ1_append_6, rfl⟩ rfl ?_
  exact x_aret C dJ1_append_7 (Or.inl ⟨_, rfl⟩) ⟨_, rfl, hw⟩
def wp_J1_init (o : Nat) (h : AH) (Q : AH → Prop) : Prop :=
  cl h fun mc4 ms5 => wp_J0_init o 16 (h.srm mc4 ms5) fun h2 => ∀ h3, h3 = h2.srm (h.rc - mc4) (h.rs - ms5) →
  Q h3
theorem hd_J1_init : yJ1_init.name = "<init>" ∧ yJ1_init.cls ≠ "java/lang/invoke/MethodHandle" ∧ yJ1_init.cls ≠ "java/lang/invoke/VarHandle" ∧ (parseMethodDescriptor yJ1_init.desc).map (fun d => d.parameters.length) = some 0 := by decide +kernel
theorem ok_J1_init {l : Launch} {D : va_G} {s0 : S0} (hG : G0 D s0) {o : Nat} {h : AH} {Q : AH → Prop} (hw : wp_J1_init o h Q) : OKm l D s0 yJ1_init cJ1_init 1 none 2 81 [vA (some o)] h (QV Q) := by
  refine x_metF hG (by decide +kernel) (own := RJ1) (mn := "<init>") rfl rfl (L0 := [(0, vA (some o))]) rfl rfl ?_
  intro K C
  unfold wp_J1_init at hw
  refine x_b C (pc' := 3) (L' := [(0, vA (some o))]) (st' := [vI 16, vA (some o)]) [(.aload_n 0, 1), (.bipush 16, 2)] ⟨dJ1_init_0, dJ1_init_1, rfl⟩ rfl ?_
  obtain ⟨mc4, ms5, hle6, hw⟩ := hw
  refine x_cI C 6 (mc2 := mc4) (ms2 := ms5) [vI 16] [] dJ1_init_3 rfl (ok_J0_init hG hw) hle6 q330 q331 q161 q332 hd_J0_init ⟨rfl, rfl, rfl⟩ (fun v9 h2 h3 hq9 eh3 => ?_)
  obtain ⟨rfl, hw⟩ := hq9
  replace hw := hw h3 eh3
  exact x_vret C dJ1_init_6 ⟨rfl, hw⟩
def wp_J1_length (o : Nat) (h : AH) (Q : Int32 → AH → Prop) : Prop :=
  nn h (some o) 21 ∧
  wp_J0_length o (h.srm 0 0) fun r2 h3 => ∀ h4, h4 = h3.srm h.rc h.rs →
  Q r2 h4
theorem hd_J1_length : yJ1_length.cls = RJ1 ∧ yJ1_length.cls ≠ "java/lang/invoke/MethodHandle" ∧ yJ1_length.cls ≠ "java/lang/invoke/VarHandle" ∧ (parseMethodDescriptor yJ1_length.desc).map (fun d => d.parameters.length) = some 0 := by decide +kernel
theorem ok_J1_length {l : Launch} {D : va_G} {s0 : S0} (hG : G0 D s0) {o : Nat} {h : AH} {Q : Int32 → AH → Prop} (hw : wp_J1_length o h Q) : OKm l D s0 yJ1_length cJ1_length 1 (some .int) 1 60 [vA (some o)] h (QI Q) := by
  refine x_metF hG (by decide +kernel) (own := RJ1) (mn := "length") rfl rfl (L0 := [(0, vA (some o))]) rfl rfl ?_
  intro K C
  unfold wp_J1_length at hw
  refine x_b C (pc' := 1) (L' := [(0, vA (some o))]) (st' := [vA (some o)]) [(.aload_n 0, 1)] ⟨dJ1_length_0, rfl⟩ rfl ?_
  have hn1 := hw.1
  replace hw := hw.2
  refine x_cSU C 21 4 (mc2 := 0) (ms2 := 0) [] [] dJ1_length_1 rfl (ok_J0_length hG hw) ⟨Nat.zero_le _, Nat.zero_le _⟩ q475 q471 q355 q470 q161 q476 rfl hs_J0_length ⟨rfl, rfl, rfl⟩ hn1 (fun v9 h3 h4 hq9 eh4 => ?_)
  obtain ⟨r2, rfl, hw⟩ := hq9
  replace hw := hw h4 eh4
  exact x_iret C dJ1_length_4 ⟨_, rfl, hw⟩
def wp_J3_coderFromArrayLen (p0 : Option Nat) (p1 : Int32) (h : AH) (Q : Int32 → AH → Prop) : Prop :=
  nn h p0 41 ∧
  narrow .byte (.int (Int8.toInt32 (Int32.toInt8 (jushr (p1 - (nI (h.kd (adr p0)).2)) 31)))) = .int (Int8.toInt32 (Int32.toInt8 (jushr (p1 - (nI (h.kd (adr p0)).2)) 31))) ∧ Q (Int8.toInt32 (Int32.toInt8 (jushr (p1 - (nI (h.kd (adr p0)).2)) 31))) h
theorem hd_J3_coderFromArrayLen : yJ3_coderFromArrayLen.cls ≠ "java/lang/invoke/MethodHandle" ∧ yJ3_coderFromArrayLen.cls ≠ "java/lang/invoke/VarHandle" ∧ (parseMethodDescriptor yJ3_coderFromArrayLen.desc).map (fun d => d.parameters.length) = some 2 := by decide +kernel
theorem ok_J3_coderFromArrayLen {l : Launch} {D : va_G} {s0 : S0} (hG : G0 D s0) {p0 : Option Nat} {p1 : Int32} {h : AH} {Q : Int32 → AH → Prop} (hw : wp_J3_coderFromArrayLen p0 p1 h Q) : OKm l D s0 yJ3_coderFromArrayLen cJ3_coderFromArrayLen 2 (some .byte) 0 0 [vA p0, vI p1] h (QI Q) := by
  refine x_metF hG (by decide +kernel) (own := RJ3) (mn := "coderFromArrayLen") rfl rfl (L0 := [(0, vA p0), (1, vI p1)]) rfl rfl ?_
  intro K C
  unfold wp_J3_coderFromArrayLen at hw
  refine x_b C (pc' := 2) (L' := [(0, vA p0), (1, vI p1)]) (st' := [vA p0, vI p1]) [(.iload_n 1, 1), (.aload_n 0, 1)] ⟨dJ3_coderFromArrayLen_0, dJ3_coderFromArrayLen_1, rfl⟩ rfl ?_
  have hn1 := hw.1
  replace hw := hw.2
  refine x_alen C 41 3 dJ3_coderFromArrayLen_2 rfl rfl hn1 ?_
  refine x_b C (pc' := 8) (L' := [(0, vA p0), (1, vI p1)]) (st' := [vI (Int8.toInt32 (Int32.toInt8 (jushr (p1 - (nI (h.kd (adr p0)).2)) 31)))]) [(.isub, 1), (.bipush 31, 2), (.iushr, 1), (.i2b, 1)] ⟨dJ3_coderFromArrayLen_3, dJ3_coderFromArrayLen_4, dJ3_coderFromArrayLen_6, dJ3_coderFromArrayLen_7, rfl⟩ rfl ?_
  exact x_zret C dJ3_coderFromArrayLen_8 hw.1 ⟨_, rfl, hw.2⟩
def wp_J3_getChar (p0 : Option Nat) (p1 : Int32) (h : AH) (Q : Int32 → AH → Prop) : Prop :=
  ix h p0 41 (jshl p1 1) ∧
  ix h p0 41 ((jshl p1 1) + 1) ∧
  narrow .char (.int (ji2c ((jshl ((h.ai (adr p0) (ni (jshl p1 1))) &&& 255) 0) ||| (jshl ((h.ai (adr p0) (ni ((jshl p1 1) + 1))) &&& 255) 8)))) = .int (ji2c ((jshl ((h.ai (adr p0) (ni (jshl p1 1))) &&& 255) 0) ||| (jshl ((h.ai (adr p0) (ni ((jshl p1 1) + 1))) &&& 255) 8))) ∧ Q (ji2c ((jshl ((h.ai (adr p0) (ni (jshl p1 1))) &&& 255) 0) ||| (jshl ((h.ai (adr p0) (ni ((jshl p1 1) + 1))) &&& 255) 8))) h
theorem hd_J3_getChar : yJ3_getChar.cls ≠ "java/lang/invoke/MethodHandle" ∧ yJ3_getChar.cls ≠ "java/lang/invoke/VarHandle" ∧ (parseMethodDescriptor yJ3_getChar.desc).map (fun d => d.parameters.length) = some 2 := by decide +kernel
theorem ok_J3_getChar {l : Launch} {D : va_G} {s0 : S0} (hG : G0 D s0) {p0 : Option Nat} {p1 : Int32} {h : AH} {Q : Int32 → AH → Prop} (hw : wp_J3_getChar p0 p1 h Q) : OKm l D s0 yJ3_getChar cJ3_getChar 2 (some .char) 1 60 [vA p0, vI p1] h (QI Q) := by
  refine x_metF hG (by decide +kernel) (own := RJ3) (mn := "getChar") rfl rfl (L0 := [(0, vA p0), (1, vI p1)]) rfl rfl ?_
  intro K C
  unfold wp_J3_getChar at hw
  refine x_gets C 3 (v := vI 1) dJ3_getChar_0 rfl z_ad q433 ?_
  refine x_if_ne C 28 6 dJ3_getChar_3 rfl rfl (fun _ => ?_) (fun hc => absurd hc (by decide))
  refine x_b C (pc' := 37) (L' := [(1, vI ((jshl p1 1) + 1)), (0, vA p0)]) (st' := [vI (jshl p1 1), vA p0]) [(.iload_n 1, 1), (.iconst 1, 1), (.ishl, 1), (.istore_n 1, 1), (.aload_n 0, 1), (.iload_n 1, 1), (.iinc 1 1, 3)] ⟨dJ3_getChar_28, dJ3_getChar_29, dJ3_getChar_30, dJ3_getChar_31, dJ3_getChar_32, dJ3_getChar_33, dJ3_getChar_34, rfl⟩ rfl ?_
  refine x_bald C 38 dJ3_getChar_37 rfl hw.1 ?_
  replace hw := hw.2
  refine x_b C (pc' := 42) (L' := [(1, vI ((jshl p1 1) + 1)), (0, vA p0)]) (st' := [vI ((h.ai (adr p0) (ni (jshl p1 1))) &&& 255)]) [(.sipush 255, 3), (.iand, 1)] ⟨dJ3_getChar_38, dJ3_getChar_41, rfl⟩ rfl ?_
  refine x_gets C 45 (v := vI 0) dJ3_getChar_42 rfl z_hi q435 ?_
  refine x_b C (pc' := 48) (L' := [(1, vI ((jshl p1 1) + 1)), (0, vA p0)]) (st' := [vI ((jshl p1 1) + 1), vA p0, vI (jshl ((h.ai (adr p0) (ni (jshl p1 1))) &&& 255) 0)]) [(.ishl, 1), (.aload_n 0, 1), (.iload_n 1, 1)] ⟨dJ3_getChar_45, dJ3_getChar_46, dJ3_getChar_47, rfl⟩ rfl ?_
  refine x_bald C 49 dJ3_getChar_48 rfl hw.1 ?_
  replace hw := hw.2
  refine x_b C (pc' := 53) (L' := [(1, vI ((jshl p1 1) + 1)), (0, vA p0)]) (st' := [vI ((h.ai (adr p0) (ni ((jshl p1 1) + 1))) &&& 255), vI (jshl ((h.ai (adr p0) (ni (jshl p1 1))) &&& 255) 0)]) [(.sipush 255, 3), (.iand, 1)] ⟨dJ3_getChar_49, dJ3_getChar_52, rfl⟩ rfl ?_
  refine x_gets C 56 (v := vI 8) dJ3_getChar_53 rfl z_lob q437 ?_
  refine x_b C (pc' := 59) (L' := [(1, vI ((jshl p1 1) + 1)), (0, vA p0)]) (st' := [vI (ji2c ((jshl ((h.ai (adr p0) (ni (jshl p1 1))) &&& 255) 0) ||| (jshl ((h.ai (adr p0) (ni ((jshl p1 1) + 1))) &&& 255) 8)))]) [(.ishl, 1), (.ior, 1), (.i2c, 1)] ⟨dJ3_getChar_56, dJ3_getChar_57, dJ3_getChar_58, rfl⟩ rfl ?_
  exact x_zret C dJ3_getChar_59 hw.1 ⟨_, rfl, hw.2⟩
def wp_J3_compress_2 (p0 : Option Nat) (p1 : Int32) (p2 : Option Nat) (p3 : Int32) (p4 : Int32) (h : AH) (Q : Int32 → AH → Prop) : Prop :=
  wp_J3_checkBoundsOffCount p1 p4 p0 (h.srm 0 0) fun h2 => ∀ h3, h3 = h2.srm h.rc h.rs →
  xlp (σ := Int32 × Int32 × Int32) (fun s4 T5 k4 =>
  ((p4 ≤ s4.2.2 →
  Q p4 T5) ∧ (¬ p4 ≤ s4.2.2 →
  cl T5 fun mc10 ms11 => wp_J3_getChar p0 (s4.1) (T5.srm mc10 ms11) fun r7 h8 => ∀ h9, h9 = h8.srm (T5.rc - mc10) (T5.rs - ms11) →
  ((r7 ≤ 255 →
  ix h9 p2 41 s4.2.1 ∧
  h9.lo ≤ (adr p2) ∧
  ∀ h14, h14 = h9.sai (adr p2) (ni s4.2.1) (vp_nar .byte (Int8.toInt32 (Int32.toInt8 r7))) →
  k4 ((s4.1 + 1), (s4.2.1 + 1), (s4.2.2 + 1)) h14) ∧ (¬ r7 ≤ 255 →
  Q s4.2.2 h9))))) (p1, p3, 0) h3
theorem hd_J3_compress_2 : yJ3_compress_2.cls ≠ "java/lang/invoke/MethodHandle" ∧ yJ3_compress_2.cls ≠ "java/lang/invoke/VarHandle" ∧ (parseMethodDescriptor yJ3_compress_2.desc).map (fun d => d.parameters.length) = some 5 := by decide +kernel
theorem ok_J3_compress_2 {l : Launch} {D : va_G} {s0 : S0} (hG : G0 D s0) {p0 : Option Nat} {p1 : Int32} {p2 : Option Nat} {p3 : Int32} {p4 : Int32} {h : AH} {Q : Int32 → AH → Prop} (hw : wp_J3_compress_2 p0 p1 p2 p3 p4 h Q) : OKm l D s0 yJ3_compress_2 cJ3_compress_2 7 (some .int) 4 127 [vA p0, vI p1, vA p2, vI p3, vI p4] h (QI Q) := by
  refine x_metF hG (by decide +kernel) (own := RJ3) (mn := "compress") rfl rfl (L0 := [(0, vA p0), (1, vI p1), (2, vA p2), (3, vI p3), (4, vI p4)]) rfl rfl ?_
  intro K C
  unfold wp_J3_compress_2 at hw
  refine x_b C (pc' := 4) (L' := [(0, vA p0), (1, vI p1), (2, vA p2), (3, vI p3), (4, vI p4)]) (st' := [vA p0, vI p4, vI p1]) [(.iload_n 1, 1), (.iload 4, 2), (.aload_n 0, 1)] ⟨dJ3_compress_2_0, dJ3_compress_2_1, dJ3_compress_2_3, rfl⟩ rfl ?_
  refine x_cS C 7 (mc2 := 0) (ms2 := 0) [vI p1, vI p4, vA p0] [] dJ3_compress_2_4 rfl (ok_J3_checkBoundsOffCount hG hw) ⟨Nat.zero_le _, Nat.zero_le _⟩ q416 q417 q164 q418 hd_J3_checkBoundsOffCount ⟨rfl, rfl, rfl⟩ (fun v9 h2 h3 hq9 eh3 => ?_)
  obtain ⟨rfl, hw⟩ := hq9
  replace hw := hw h3 eh3
  refine x_b C (pc' := 10) (L' := [(5, vI 0), (0, vA p0), (1, vI p1), (2, vA p2), (3, vI p3), (4, vI p4)]) (st' := []) [(.iconst 0, 1), (.istore 5, 2)] ⟨dJ3_compress_2_7, dJ3_compress_2_8, rfl⟩ rfl ?_
  obtain ⟨I4, ⟨n4, hI4⟩, hB4⟩ := xlp.out hw
  refine x_sub C (L' := [(0, vA p0), (1, vI p1), (2, vA p2), (3, vI p3), (4, vI p4), (5, vI 0)]) [1, 2, 3, 4, 5, 0] rfl ?_
  have key4 : ∀ (n : Nat) (s4 : Int32 × Int32 × Int32) (T5 : AH), I4 n s4 T5 → K 10 [(0, vA p0), (1, vI (s4.1)), (2, vA p2), (3, vI (s4.2.1)), (4, vI p4), (5, vI (s4.2.2))] [] T5 := by
    intro n
    induction n using Nat.strongRecOn with
    | ind n ih4 =>
      intro s4 T5 hI
      replace hw := hB4 n s4 T5 hI
      refine x_b C (pc' := 14) (L' := [(0, vA p0), (1, vI (s4.1)), (2, vA p2), (3, vI (s4.2.1)), (4, vI p4), (5, vI (s4.2.2))]) (st' := [vI p4, vI (s4.2.2)]) [(.iload 5, 2), (.iload 4, 2)] ⟨dJ3_compress_2_10, dJ3_compress_2_12, rfl⟩ rfl ?_
      refine x_icmp_ge C 53 17 dJ3_compress_2_14 rfl rfl (fun hc6 => ?_) (fun hc6 => ?_)
      · replace hw := hw.1 hc6
        refine x_b C (pc' := 55) (L' := [(0, vA p0), (1, vI (s4.1)), (2, vA p2), (3, vI (s4.2.1)), (4, vI p4), (5, vI (s4.2.2))]) (st' := [vI p4]) [(.iload 4, 2)] ⟨dJ3_compress_2_53, rfl⟩ rfl ?_
        exact x_iret C dJ3_compress_2_55 ⟨_, rfl, hw⟩
      · replace hw := hw.2 hc6
        refine x_b C (pc' := 19) (L' := [(0, vA p0), (1, vI (s4.1)), (2, vA p2), (3, vI (s4.2.1)), (4, vI p4), (5, vI (s4.2.2))]) (st' := [vI (s4.1), vA p0]) [(.aload_n 0, 1), (.iload_n 1, 1)] ⟨dJ3_compress_2_17, dJ3_compress_2_18, rfl⟩ rfl ?_
        obtain ⟨mc10, ms11, hle12, hw⟩ := hw
        refine x_cS C 22 (mc2 := mc10) (ms2 := ms11) [vA p0, vI (s4.1)] [] dJ3_compress_2_19 rfl (ok_J3_getChar hG hw) hle12 q494 q495 q164 q496 hd_J3_getChar ⟨rfl, rfl, rfl⟩ (fun v9 h8 h9 hq9 eh9 => ?_)
        obtain ⟨r7, rfl, hw⟩ := hq9
        replace hw := hw h9 eh9
        refine x_b C (pc' := 29) (L' := [(6, vI r7), (0, vA p0), (1, vI (s4.1)), (2, vA p2), (3, vI (s4.2.1)), (4, vI p4), (5, vI (s4.2.2))]) (st' := [vI 255, vI r7]) [(.istore 6, 2), (.iload 6, 2), (.sipush 255, 3)] ⟨dJ3_compress_2_22, dJ3_compress_2_24, dJ3_compress_2_26, rfl⟩ rfl ?_
        refine x_icmp_le C 35 32 dJ3_compress_2_29 rfl rfl (fun hc13 => ?_) (fun hc13 => ?_)
        · replace hw := hw.1 hc13
          refine x_b C (pc' := 40) (L' := [(6, vI r7), (0, vA p0), (1, vI (s4.1)), (2, vA p2), (3, vI (s4.2.1)), (4, vI p4), (5, vI (s4.2.2))]) (st' := [vI (Int8.toInt32 (Int32.toInt8 r7)), vI (s4.2.1), vA p2]) [(.aload_n 2, 1), (.iload_n 3, 1), (.iload 6, 2), (.i2b, 1)] ⟨dJ3_compress_2_35, dJ3_compress_2_36, dJ3_compress_2_37, dJ3_compress_2_39, rfl⟩ rfl ?_
          refine y_bast C 41 dJ3_compress_2_40 rfl hw.1 (Or.inr hw.2.1) (fun h14 eh14 => ?_)
          replace hw := hw.2.2 h14 eh14
          refine x_b C (pc' := 50) (L' := [(5, vI (s4.2.2 + 1)), (3, vI (s4.2.1 + 1)), (1, vI (s4.1 + 1)), (6, vI r7), (0, vA p0), (2, vA p2), (4, vI p4)]) (st' := []) [(.iinc 1 1, 3), (.iinc 3 1, 3), (.iinc 5 1, 3)] ⟨dJ3_compress_2_41, dJ3_compress_2_44, dJ3_compress_2_47, rfl⟩ rfl ?_
          refine x_goto C 10 dJ3_compress_2_50 rfl ?_
          refine x_sub C (L' := [(0, vA p0), (1, vI (s4.1 + 1)), (2, vA p2), (3, vI (s4.2.1 + 1)), (4, vI p4), (5, vI (s4.2.2 + 1))]) [4, 2, 5, 1, 6, 0] rfl ?_
          obtain ⟨m9, hm9, hw⟩ := hw
          exact ih4 m9 hm9 ((s4.1 + 1), (s4.2.1 + 1), (s4.2.2 + 1)) h14 hw
        · replace hw := hw.2 hc13
          refine x_b C (pc' := 34) (L' := [(6, vI r7), (0, vA p0), (1, vI (s4.1)), (2, vA p2), (3, vI (s4.2.1)), (4, vI p4), (5, vI (s4.2.2))]) (st' := [vI (s4.2.2)]) [(.iload 5, 2)] ⟨dJ3_compress_2_32, rfl⟩ rfl ?_
          exact x_iret C dJ3_compress_2_34 ⟨_, rfl, hw⟩
  exact key4 n4 (p1, p3, 0) h3 hI4
def wp_J6_checkLength (p0 : Int32) (p1 : Int32) (h : AH) (Q : AH → Prop) : Prop :=
  ((p0 ≤ p1 →
  Q h) ∧ (¬ p0 ≤ p1 →
  False))
theorem hd_J6_checkLength : yJ6_checkLength.cls ≠ "java/lang/invoke/MethodHandle" ∧ yJ6_checkLength.cls ≠ "java/lang/invoke/VarHandle" ∧ (parseMethodDescriptor yJ6_checkLength.desc).map (fun d => d.parameters.length) = some 2 := by decide +kernel
theorem ok_J6_checkLength {l : Launch} {D : va_G} {s0 : S0} (hG : G0 D s0) {p0 : Int32} {p1 : Int32} {h : AH} {Q : AH → Prop} (hw : wp_J6_checkLength p0 p1 h Q) : OKm l D s0 yJ6_checkLength cJ6_checkLength 2 none 1 60 [vI p0, vI p1] h (QV Q) := by
  refine x_metF hG (by decide +kernel) (own := RJ6) (mn := "checkLength") rfl rfl (L0 := [(0, vI p0), (1, vI p1)]) rfl rfl ?_
  intro K C
  unfold wp_J6_checkLength at hw
  refine x_b C (pc' := 2) (L' := [(0, vI p0), (1, vI p1)]) (st' := [vI p0, vI p1]) [(.iload_n 1, 1), (.iload_n 0, 1)] ⟨dJ6_checkLength_0, dJ6_checkLength_1, rfl⟩ rfl ?_
  refine x_icmp_ge C 37 5 dJ6_checkLength_2 rfl rfl (fun hc1 => ?_) (fun hc1 => ?_)
  · replace hw := hw.1 hc1
    exact x_vret C dJ6_checkLength_37 ⟨rfl, hw⟩
  · replace hw := hw.2 hc1
    exact hw.elim
def wp_J6_copyOfRangeByte (p0 : Option Nat) (p1 : Int32) (p2 : Int32) (h : AH) (Q : Option Nat → AH → Prop) : Prop :=
  cl h fun mc4 ms5 => wp_J6_checkLength p1 p2 (h.srm mc4 ms5) fun h2 => ∀ h3, h3 = h2.srm (h.rc - mc4) (h.rs - ms5) →
  nl h3 (p2 - p1) ∧
  ∀ h7, h7 = h3.new 41 (ni (p2 - p1)) (ni (p2 - p1)) →
  nn h7 p0 41 ∧
  cpk h7 41 p0 p1 (some h3.sz) 0 (if (p2 - p1) < ((nI (h7.kd (adr p0)).2) - p1) then (p2 - p1) else ((nI (h7.kd (adr p0)).2) - p1)) ∧
  h7.lo ≤ h3.sz ∧
  (∀ i, i < ni (if (p2 - p1) < ((nI (h7.kd (adr p0)).2) - p1) then (p2 - p1) else ((nI (h7.kd (adr p0)).2) - p1)) → fits .byte (.int (h7.ai (adr p0) (ni p1 + i))) = true) ∧
  ∀ h9, h9 = h7.wai h3.sz (va_cpy (h7.ai (adr p0)) (h7.ai h3.sz) (ni p1) (ni 0) (ni (if (p2 - p1) < ((nI (h7.kd (adr p0)).2) - p1) then (p2 - p1) else ((nI (h7.kd (adr p0)).2) - p1)))) →
  Q (some h3.sz) h9
theorem hd_J6_copyOfRangeByte : yJ6_copyOfRangeByte.cls ≠ "java/lang/invoke/MethodHandle" ∧ yJ6_copyOfRangeByte.cls ≠ "java/lang/invoke/VarHandle" ∧ (parseMethodDescriptor yJ6_copyOfRangeByte.desc).map (fun d => d.parameters.length) = some 3 := by decide +kernel
theorem ok_J6_copyOfRangeByte {l : Launch} {D : va_G} {s0 : S0} (hG : G0 D s0) {p0 : Option Nat} {p1 : Int32} {p2 : Int32} {h : AH} {Q : Option Nat → AH → Prop} (hw : wp_J6_copyOfRangeByte p0 p1 p2 h Q) : OKm l D s0 yJ6_copyOfRangeByte cJ6_copyOfRangeByte 5 (some (.array .byte)) 2 81 [vA p0, vI p1, vI p2] h (QA Q) := by
  refine x_metF hG (by decide +kernel) (own := RJ6) (mn := "copyOfRangeByte") rfl rfl (L0 := [(0, vA p0), (1, vI p1), (2, vI p2)]) rfl rfl ?_
  intro K C
  unfold wp_J6_copyOfRangeByte at hw
  refine x_b C (pc' := 2) (L' := [(0, vA p0), (1, vI p1), (2, vI p2)]) (st' := [vI p2, vI p1]) [(.iload_n 1, 1), (.iload_n 2, 1)] ⟨dJ6_copyOfRangeByte_0, dJ6_copyOfRangeByte_1, rfl⟩ rfl ?_
  obtain ⟨mc4, ms5, hle6, hw⟩ := hw
  refine x_cS C 5 (mc2 := mc4) (ms2 := ms5) [vI p1, vI p2] [] dJ6_copyOfRangeByte_2 rfl (ok_J6_checkLength hG hw) hle6 q484 q485 q167 q486 hd_J6_checkLength ⟨rfl, rfl, rfl⟩ (fun v9 h2 h3 hq9 eh3 => ?_)
  obtain ⟨rfl, hw⟩ := hq9
  replace hw := hw h3 eh3
  refine x_b C (pc' := 10) (L' := [(3, vI (p2 - p1)), (0, vA p0), (1, vI p1), (2, vI p2)]) (st' := [vI (p2 - p1)]) [(.iload_n 2, 1), (.iload_n 1, 1), (.isub, 1), (.istore_n 3, 1), (.iload_n 3, 1)] ⟨dJ6_copyOfRangeByte_5, dJ6_copyOfRangeByte_6, dJ6_copyOfRangeByte_7, dJ6_copyOfRangeByte_8, dJ6_copyOfRangeByte_9, rfl⟩ rfl ?_
  refine x_newa C 41 (atype := .byte) 12 dJ6_copyOfRangeByte_10 rfl rfl ⟨by decide, by decide⟩ (by decide) (fun _ _ q => q) q272 hw.1 (fun h7 eh7 => ?_)
  replace hw := hw.2 h7 eh7
  refine x_b C (pc' := 20) (L' := [(4, vA (some h3.sz)), (3, vI (p2 - p1)), (0, vA p0), (1, vI p1), (2, vI p2)]) (st' := [vA p0, vI 0, vA (some h3.sz), vI p1, vA p0]) [(.astore 4, 2), (.aload_n 0, 1), (.iload_n 1, 1), (.aload 4, 2), (.iconst 0, 1), (.aload_n 0, 1)] ⟨dJ6_copyOfRangeByte_12, dJ6_copyOfRangeByte_14, dJ6_copyOfRangeByte_15, dJ6_copyOfRangeByte_16, dJ6_copyOfRangeByte_18, dJ6_copyOfRangeByte_19, rfl⟩ rfl ?_
  have hn8 := hw.1
  replace hw := hw.2
  refine x_alen C 41 21 dJ6_copyOfRangeByte_20 rfl rfl hn8 ?_
  refine x_b C (pc' := 24) (L' := [(4, vA (some h3.sz)), (3, vI (p2 - p1)), (0, vA p0), (1, vI p1), (2, vI p2)]) (st' := [vI (p2 - p1), vI ((nI (h7.kd (adr p0)).2) - p1), vI 0, vA (some h3.sz), vI p1, vA p0]) [(.iload_n 1, 1), (.isub, 1), (.iload_n 3, 1)] ⟨dJ6_copyOfRangeByte_21, dJ6_copyOfRangeByte_22, dJ6_copyOfRangeByte_23, rfl⟩ rfl ?_
  refine x_mmin C 27 [vI 0, vA (some h3.sz), vI p1, vA p0] dJ6_copyOfRangeByte_24 rfl q392 q393 q166 q394 ⟨rfl, rfl⟩ ?_
  refine x_copyI C 41 30 [] dJ6_copyOfRangeByte_27 rfl rfl (fun _ _ => rfl) rfl q395 q397 q396 q168 ⟨rfl, rfl⟩ hw.1 (Or.inr hw.2.1) hw.2.2.1 (fun h9 eh9 => ?_)
  replace hw := hw.2.2.2 h9 eh9
  refine x_b C (pc' := 32) (L' := [(4, vA (some h3.sz)), (3, vI (p2 - p1)), (0, vA p0), (1, vI p1), (2, vI p2)]) (st' := [vA (some h3.sz)]) [(.aload 4, 2)] ⟨dJ6_copyOfRangeByte_30, rfl⟩ rfl ?_
  exact x_aret C dJ6_copyOfRangeByte_32 (Or.inr ⟨_, rfl⟩) ⟨_, rfl, hw⟩
def wp_J6_copyOfRange (p0 : Option Nat) (p1 : Int32) (p2 : Int32) (h : AH) (Q : Option Nat → AH → Prop) : Prop :=
  ((p1 = 0 →
  nn h p0 41 ∧
  ((p2 = (nI (h.kd (adr p0)).2) →
  (∀ i, i < (h.kd (adr p0)).2 → fits .byte (.int (h.ai (adr p0) i)) = true) ∧
  nr h (h.kd (adr p0)).2 ∧
  ∀ h10, h10 = (h.new 41 (h.kd (adr p0)).2 (h.kd (adr p0)).2).wai h.sz (h.ai (adr p0)) →
  nn h10 (some h.sz) 41 ∧
  Q (some h.sz) h10) ∧ (¬ p2 = (nI (h.kd (adr p0)).2) →
  cl h fun mc15 ms16 => wp_J6_copyOfRangeByte p0 p1 p2 (h.srm mc15 ms16) fun r12 h13 => ∀ h14, h14 = h13.srm (h.rc - mc15) (h.rs - ms16) →
  Q r12 h14))) ∧ (¬ p1 = 0 →
  cl h fun mc5 ms6 => wp_J6_copyOfRangeByte p0 p1 p2 (h.srm mc5 ms6) fun r2 h3 => ∀ h4, h4 = h3.srm (h.rc - mc5) (h.rs - ms6) →
  Q r2 h4))
theorem hd_J6_copyOfRange : yJ6_copyOfRange.cls ≠ "java/lang/invoke/MethodHandle" ∧ yJ6_copyOfRange.cls ≠ "java/lang/invoke/VarHandle" ∧ (parseMethodDescriptor yJ6_copyOfRange.desc).map (fun d => d.parameters.length) = some 3 := by decide +kernel
theorem ok_J6_copyOfRange {l : Launch} {D : va_G} {s0 : S0} (hG : G0 D s0) {p0 : Option Nat} {p1 : Int32} {p2 : Int32} {h : AH} {Q : Option Nat → AH → Prop} (hw : wp_J6_copyOfRange p0 p1 p2 h Q) : OKm l D s0 yJ6_copyOfRange cJ6_copyOfRange 3 (some (.array .byte)) 3 105 [vA p0, vI p1, vI p2] h (QA Q) := by
  refine x_metF hG (by decide +kernel) (own := RJ6) (mn := "copyOfRange") rfl rfl (L0 := [(0, vA p0), (1, vI p1), (2, vI p2)]) rfl rfl ?_
  intro K C
  unfold wp_J6_copyOfRange at hw
  refine x_b C (pc' := 1) (L' := [(0, vA p0), (1, vI p1), (2, vI p2)]) (st' := [vI p1]) [(.iload_n 1, 1)] ⟨dJ6_copyOfRange_0, rfl⟩ rfl ?_
  refine x_if_ne C 10 4 dJ6_copyOfRange_1 rfl rfl (fun hc1 => ?_) (fun hc1 => ?_)
  · replace hw := hw.2 hc1
    refine x_b C (pc' := 13) (L' := [(0, vA p0), (1, vI p1), (2, vI p2)]) (st' := [vI p2, vI p1, vA p0]) [(.aload_n 0, 1), (.iload_n 1, 1), (.iload_n 2, 1)] ⟨dJ6_copyOfRange_10, dJ6_copyOfRange_11, dJ6_copyOfRange_12, rfl⟩ rfl ?_
    obtain ⟨mc5, ms6, hle7, hw⟩ := hw
    refine x_cS C 16 (mc2 := mc5) (ms2 := ms6) [vA p0, vI p1, vI p2] [] dJ6_copyOfRange_13 rfl (ok_J6_copyOfRangeByte hG hw) hle7 q481 q482 q167 q483 hd_J6_copyOfRangeByte ⟨rfl, rfl, rfl⟩ (fun v9 h3 h4 hq9 eh4 => ?_)
    obtain ⟨r2, rfl, hw⟩ := hq9
    replace hw := hw h4 eh4
    exact x_aret C dJ6_copyOfRange_16 (Or.inr ⟨_, rfl⟩) ⟨_, rfl, hw⟩
  · replace hw := hw.1 hc1
    refine x_b C (pc' := 6) (L' := [(0, vA p0), (1, vI p1), (2, vI p2)]) (st' := [vA p0, vI p2]) [(.iload_n 2, 1), (.aload_n 0, 1)] ⟨dJ6_copyOfRange_4, dJ6_copyOfRange_5, rfl⟩ rfl ?_
    have hn8 := hw.1
    replace hw := hw.2
    refine x_alen C 41 7 dJ6_copyOfRange_6 rfl rfl hn8 ?_
    refine x_icmp_eq C 17 10 dJ6_copyOfRange_7 rfl rfl (fun hc9 => ?_) (fun hc9 => ?_)
    · replace hw := hw.1 hc9
      refine x_b C (pc' := 18) (L' := [(0, vA p0), (1, vI p1), (2, vI p2)]) (st' := [vA p0]) [(.aload_n 0, 1)] ⟨dJ6_copyOfRange_17, rfl⟩ rfl ?_
      refine x_clone C 41 21 [] dJ6_copyOfRange_18 rfl rfl (fun _ _ => rfl) ⟨by decide, by decide⟩ (fun _ _ q => q) q385 q386 q387 q388 q389 q390 ⟨rfl, rfl⟩ hn8 hw.1 hw.2.1 (fun h10 eh10 => ?_)
      replace hw := hw.2.2 h10 eh10
      have hn11 := hw.1
      replace hw := hw.2
      refine x_castA C 41 24 dJ6_copyOfRange_21 rfl rfl (fun _ _ q => q) q391 hn11 ?_
      exact x_aret C dJ6_copyOfRange_24 (Or.inr ⟨_, rfl⟩) ⟨_, rfl, hw⟩
    · replace hw := hw.2 hc9
      refine x_b C (pc' := 13) (L' := [(0, vA p0), (1, vI p1), (2, vI p2)]) (st' := [vI p2, vI p1, vA p0]) [(.aload_n 0, 1), (.iload_n 1, 1), (.iload_n 2, 1)] ⟨dJ6_copyOfRange_10, dJ6_copyOfRange_11, dJ6_copyOfRange_12, rfl⟩ rfl ?_
      obtain ⟨mc15, ms16, hle17, hw⟩ := hw
      refine x_cS C 16 (mc2 := mc15) (ms2 := ms16) [vA p0, vI p1, vI p2] [] dJ6_copyOfRange_13 rfl (ok_J6_copyOfRangeByte hG hw) hle17 q481 q482 q167 q483 hd_J6_copyOfRangeByte ⟨rfl, rfl, rfl⟩ (fun v9 h13 h14 hq9 eh14 => ?_)
      obtain ⟨r12, rfl, hw⟩ := hq9
      replace hw := hw h14 eh14
      exact x_aret C dJ6_copyOfRange_16 (Or.inr ⟨_, rfl⟩) ⟨_, rfl, hw⟩
def wp_J3_compress (p0 : Option Nat) (p1 : Int32) (p2 : Int32) (h : AH) (Q : Option Nat → AH → Prop) : Prop :=
  nl h p2 ∧
  ∀ h1, h1 = h.new 41 (ni p2) (ni p2) →
  cl h1 fun mc5 ms6 => wp_J3_compress_2 p0 p1 (some h.sz) 0 p2 (h1.srm mc5 ms6) fun r2 h3 => ∀ h4, h4 = h3.srm (h1.rc - mc5) (h1.rs - ms6) →
  ((r2 = p2 →
  Q (some h.sz) h4) ∧ (¬ r2 = p2 →
  cl h4 fun mc12 ms13 => wp_J3_newBytesLength (p1 + p2) (h4.srm mc12 ms13) fun r9 h10 => ∀ h11, h11 = h10.srm (h4.rc - mc12) (h4.rs - ms13) →
  cl h11 fun mc18 ms19 => wp_J6_copyOfRange p0 (jshl p1 1) r9 (h11.srm mc18 ms19) fun r15 h16 => ∀ h17, h17 = h16.srm (h11.rc - mc18) (h11.rs - ms19) →
  cl h17 fun mc24 ms25 => wp_J3_getChar r15 r2 (h17.srm mc24 ms25) fun r21 h22 => ∀ h23, h23 = h22.srm (h17.rc - mc24) (h17.rs - ms25) →
  ((255 < r21 →
  Q r15 h23) ∧ (¬ 255 < r21 →
  cl h23 fun mc31 ms32 => wp_J3_compress_2 r15 0 (some h.sz) 0 p2 (h23.srm mc31 ms32) fun r28 h29 => ∀ h30, h30 = h29.srm (h23.rc - mc31) (h23.rs - ms32) →
  ((r28 = p2 →
  Q (some h.sz) h30) ∧ (¬ r28 = p2 →
  Q r15 h30))))))
theorem hd_J3_compress : yJ3_compress.cls ≠ "java/lang/invoke/MethodHandle" ∧ yJ3_compress.cls ≠ "java/lang/invoke/VarHandle" ∧ (parseMethodDescriptor yJ3_compress.desc).map (fun d => d.parameters.length) = some 3 := by decide +kernel
theorem ok_J3_compress {l : Launch} {D : va_G} {s0 : S0} (hG : G0 D s0) {p0 : Option Nat} {p1 : Int32} {p2 : Int32} {h : AH} {Q : Option Nat → AH → Prop} (hw : wp_J3_compress p0 p1 p2 h Q) : OKm l D s0 yJ3_compress cJ3_compress 6 (some (.array .byte)) 5 153 [vA p0, vI p1, vI p2] h (QA Q) := by
  refine x_metF hG (by decide +kernel) (own := RJ3) (mn := "compress") rfl rfl (L0 := [(0, vA p0), (1, vI p1), (2, vI p2)]) rfl rfl ?_
  intro K C
  unfold wp_J3_compress at hw
  refine x_b C (pc' := 1) (L' := [(0, vA p0), (1, vI p1), (2, vI p2)]) (st' := [vI p2]) [(.iload_n 2, 1)] ⟨dJ3_compress_0, rfl⟩ rfl ?_
  refine x_newa C 41 (atype := .byte) 3 dJ3_compress_1 rfl rfl ⟨by decide, by decide⟩ (by decide) (fun _ _ q => q) q272 hw.1 (fun h1 eh1 => ?_)
  replace hw := hw.2 h1 eh1
  refine x_b C (pc' := 9) (L' := [(3, vA (some h.sz)), (0, vA p0), (1, vI p1), (2, vI p2)]) (st' := [vI p2, vI 0, vA (some h.sz), vI p1, vA p0]) [(.astore_n 3, 1), (.aload_n 0, 1), (.iload_n 1, 1), (.aload_n 3, 1), (.iconst 0, 1), (.iload_n 2, 1)] ⟨dJ3_compress_3, dJ3_compress_4, dJ3_compress_5, dJ3_compress_6, dJ3_compress_7, dJ3_compress_8, rfl⟩ rfl ?_
  obtain ⟨mc5, ms6, hle7, hw⟩ := hw
  refine x_cS C 12 (mc2 := mc5) (ms2 := ms6) [vA p0, vI p1, vA (some h.sz), vI 0, vI p2] [] dJ3_compress_9 rfl (ok_J3_compress_2 hG hw) hle7 q491 q492 q164 q493 hd_J3_compress_2 ⟨rfl, rfl, rfl⟩ (fun v9 h3 h4 hq9 eh4 => ?_)
  obtain ⟨r2, rfl, hw⟩ := hq9
  replace hw := hw h4 eh4
  refine x_b C (pc' := 17) (L' := [(4, vI r2), (3, vA (some h.sz)), (0, vA p0), (1, vI p1), (2, vI p2)]) (st' := [vI p2, vI r2]) [(.istore 4, 2), (.iload 4, 2), (.iload_n 2, 1)] ⟨dJ3_compress_12, dJ3_compress_14, dJ3_compress_16, rfl⟩ rfl ?_
  refine x_icmp_eq C 64 20 dJ3_compress_17 rfl rfl (fun hc8 => ?_) (fun hc8 => ?_)
  · replace hw := hw.1 hc8
    refine x_b C (pc' := 65) (L' := [(4, vI r2), (3, vA (some h.sz)), (0, vA p0), (1, vI p1), (2, vI p2)]) (st' := [vA (some h.sz)]) [(.aload_n 3, 1)] ⟨dJ3_compress_64, rfl⟩ rfl ?_
    exact x_aret C dJ3_compress_65 (Or.inr ⟨_, rfl⟩) ⟨_, rfl, hw⟩
  · replace hw := hw.2 hc8
    refine x_b C (pc' := 27) (L' := [(4, vI r2), (3, vA (some h.sz)), (0, vA p0), (1, vI p1), (2, vI p2)]) (st' := [vI (p1 + p2), vI (jshl p1 1), vA p0]) [(.aload_n 0, 1), (.iload_n 1, 1), (.iconst 1, 1), (.ishl, 1), (.iload_n 1, 1), (.iload_n 2, 1), (.iadd, 1)] ⟨dJ3_compress_20, dJ3_compress_21, dJ3_compress_22, dJ3_compress_23, dJ3_compress_24, dJ3_compress_25, dJ3_compress_26, rfl⟩ rfl ?_
    obtain ⟨mc12, ms13, hle14, hw⟩ := hw
    refine x_cS C 30 (mc2 := mc12) (ms2 := ms13) [vI (p1 + p2)] [vI (jshl p1 1), vA p0] dJ3_compress_27 rfl (ok_J3_newBytesLength hG hw) hle14 q339 q340 q164 q341 hd_J3_newBytesLength ⟨rfl, rfl, rfl⟩ (fun v9 h10 h11 hq9 eh11 => ?_)
    obtain ⟨r9, rfl, hw⟩ := hq9
    replace hw := hw h11 eh11
    obtain ⟨mc18, ms19, hle20, hw⟩ := hw
    refine x_cS C 33 (mc2 := mc18) (ms2 := ms19) [vA p0, vI (jshl p1 1), vI r9] [] dJ3_compress_30 rfl (ok_J6_copyOfRange hG hw) hle20 q497 q479 q167 q480 hd_J6_copyOfRange ⟨rfl, rfl, rfl⟩ (fun v9 h16 h17 hq9 eh17 => ?_)
    obtain ⟨r15, rfl, hw⟩ := hq9
    replace hw := hw h17 eh17
    refine x_b C (pc' := 39) (L' := [(5, vA r15), (4, vI r2), (3, vA (some h.sz)), (0, vA p0), (1, vI p1), (2, vI p2)]) (st' := [vI r2, vA r15]) [(.astore 5, 2), (.aload 5, 2), (.iload 4, 2)] ⟨dJ3_compress_33, dJ3_compress_35, dJ3_compress_37, rfl⟩ rfl ?_
    obtain ⟨mc24, ms25, hle26, hw⟩ := hw
    refine x_cS C 42 (mc2 := mc24) (ms2 := ms25) [vA r15, vI r2] [] dJ3_compress_39 rfl (ok_J3_getChar hG hw) hle26 q494 q495 q164 q496 hd_J3_getChar ⟨rfl, rfl, rfl⟩ (fun v9 h22 h23 hq9 eh23 => ?_)
    obtain ⟨r21, rfl, hw⟩ := hq9
    replace hw := hw h23 eh23
    refine x_b C (pc' := 45) (L' := [(5, vA r15), (4, vI r2), (3, vA (some h.sz)), (0, vA p0), (1, vI p1), (2, vI p2)]) (st' := [vI 255, vI r21]) [(.sipush 255, 3)] ⟨dJ3_compress_42, rfl⟩ rfl ?_
    refine x_icmp_gt C 61 48 dJ3_compress_45 rfl rfl (fun hc27 => ?_) (fun hc27 => ?_)
    · replace hw := hw.1 hc27
      refine x_b C (pc' := 63) (L' := [(5, vA r15), (4, vI r2), (3, vA (some h.sz)), (0, vA p0), (1, vI p1), (2, vI p2)]) (st' := [vA r15]) [(.aload 5, 2)] ⟨dJ3_compress_61, rfl⟩ rfl ?_
      exact x_aret C dJ3_compress_63 (Or.inr ⟨_, rfl⟩) ⟨_, rfl, hw⟩
    · replace hw := hw.2 hc27
      refine x_b C (pc' := 54) (L' := [(5, vA r15), (4, vI r2), (3, vA (some h.sz)), (0, vA p0), (1, vI p1), (2, vI p2)]) (st' := [vI p2, vI 0, vA (some h.sz), vI 0, vA r15]) [(.aload 5, 2), (.iconst 0, 1), (.aload_n 3, 1), (.iconst 0, 1), (.iload_n 2, 1)] ⟨dJ3_compress_48, dJ3_compress_50, dJ3_compress_51, dJ3_compress_52, dJ3_compress_53, rfl⟩ rfl ?_
      obtain ⟨mc31, ms32, hle33, hw⟩ := hw
      refine x_cS C 57 (mc2 := mc31) (ms2 := ms32) [vA r15, vI 0, vA (some h.sz), vI 0, vI p2] [] dJ3_compress_54 rfl (ok_J3_compress_2 hG hw) hle33 q491 q492 q164 q493 hd_J3_compress_2 ⟨rfl, rfl, rfl⟩ (fun v9 h29 h30 hq9 eh30 => ?_)
      obtain ⟨r28, rfl, hw⟩ := hq9
      replace hw := hw h30 eh30
      refine x_b C (pc' := 58) (L' := [(5, vA r15), (4, vI r2), (3, vA (some h.sz)), (0, vA p0), (1, vI p1), (2, vI p2)]) (st' := [vI p2, vI r28]) [(.iload_n 2, 1)] ⟨dJ3_compress_57, rfl⟩ rfl ?_
      refine x_icmp_eq C 64 61 dJ3_compress_58 rfl rfl (fun hc34 => ?_) (fun hc34 => ?_)
      · replace hw := hw.1 hc34
        refine x_b C (pc' := 65) (L' := [(5, vA r15), (4, vI r2), (3, vA (some h.sz)), (0, vA p0), (1, vI p1), (2, vI p2)]) (st' := [vA (some h.sz)]) [(.aload_n 3, 1)] ⟨dJ3_compress_64, rfl⟩ rfl ?_
        exact x_aret C dJ3_compress_65 (Or.inr ⟨_, rfl⟩) ⟨_, rfl, hw⟩
      · replace hw := hw.2 hc34
        refine x_b C (pc' := 63) (L' := [(5, vA r15), (4, vI r2), (3, vA (some h.sz)), (0, vA p0), (1, vI p1), (2, vI p2)]) (st' := [vA r15]) [(.aload 5, 2)] ⟨dJ3_compress_61, rfl⟩ rfl ?_
        exact x_aret C dJ3_compress_63 (Or.inr ⟨_, rfl⟩) ⟨_, rfl, hw⟩
theorem hx_java_lang_AbstractStringBuilder_getValue : ("java/lang/AbstractStringBuilder" : String) ≠ "java/lang/invoke/MethodHandle" ∧ ("java/lang/AbstractStringBuilder" : String) ≠ "java/lang/invoke/VarHandle" ∧ (parseMethodDescriptor "()[B").map (fun d => d.parameters.length) = some 0 := by decide +kernel
theorem hx_java_lang_AbstractStringBuilder_length : ("java/lang/AbstractStringBuilder" : String) ≠ "java/lang/invoke/MethodHandle" ∧ ("java/lang/AbstractStringBuilder" : String) ≠ "java/lang/invoke/VarHandle" ∧ (parseMethodDescriptor "()I").map (fun d => d.parameters.length) = some 0 := by decide +kernel
def wp_J2_init_2 (o : Nat) (p0 : Option Nat) (p1 : Option Nat) (h : AH) (Q : AH → Prop) : Prop :=
  nn h p0 21 ∧
  wp_J0_getValue (adr p0) (h.srm 0 0) fun r2 h3 => ∀ h4, h4 = h3.srm h.rc h.rs →
  nn h4 p0 21 ∧
  wp_J1_length (adr p0) (h4.srm 0 0) fun r6 h7 => ∀ h8, h8 = h7.srm h4.rc h4.rs →
  nn h8 p0 21 ∧
  wp_J0_isLatin1 (adr p0) (h8.srm 0 0) fun r10 h11 => ∀ h12, h12 = h11.srm h8.rc h8.rs →
  ((r10 = 0 →
  nn h12 p0 21 ∧
  (((h12.fi 2102 (adr p0)) = 0 →
  nn h12 (some o) 22 ∧
  h12.lo ≤ o ∧
  ∀ h17, h17 = h12.sfi 2201 o (1) →
  cl h17 fun mc21 ms22 => wp_J6_copyOfRange r2 0 (jshl r6 1) (h17.srm mc21 ms22) fun r18 h19 => ∀ h20, h20 = h19.srm (h17.rc - mc21) (h17.rs - ms22) →
  nn h20 (some o) 22 ∧
  h20.lo ≤ o ∧
  ∀ h25, h25 = h20.sfr 2200 o r18 →
  Q h25) ∧ (¬ (h12.fi 2102 (adr p0)) = 0 →
  cl h12 fun mc29 ms30 => wp_J3_compress r2 0 r6 (h12.srm mc29 ms30) fun r26 h27 => ∀ h28, h28 = h27.srm (h12.rc - mc29) (h12.rs - ms30) →
  nn h28 (some o) 22 ∧
  h28.lo ≤ o ∧
  ∀ h33, h33 = h28.sfr 2200 o r26 →
  wp_J3_coderFromArrayLen (h33.fr 2200 o) r6 (h33.srm 0 0) fun r34 h35 => ∀ h36, h36 = h35.srm h33.rc h33.rs →
  nn h36 (some o) 22 ∧
  b8 r34 ∧
  h36.lo ≤ o ∧
  ∀ h38, h38 = h36.sfi 2201 o r34 →
  Q h38))) ∧ (¬ r10 = 0 →
  nn h12 (some o) 22 ∧
  h12.lo ≤ o ∧
  ∀ h40, h40 = h12.sfi 2201 o (0) →
  cl h40 fun mc44 ms45 => wp_J6_copyOfRange r2 0 r6 (h40.srm mc44 ms45) fun r41 h42 => ∀ h43, h43 = h42.srm (h40.rc - mc44) (h40.rs - ms45) →
  nn h43 (some o) 22 ∧
  h43.lo ≤ o ∧
  ∀ h48, h48 = h43.sfr 2200 o r41 →
  Q h48))
theorem hd_J2_init_2 : yJ2_init_2.name = "<init>" ∧ yJ2_init_2.cls ≠ "java/lang/invoke/MethodHandle" ∧ yJ2_init_2.cls ≠ "java/lang/invoke/VarHandle" ∧ (parseMethodDescriptor yJ2_init_2.desc).map (fun d => d.parameters.length) = some 2 := by decide +kernel
theorem ok_J2_init_2 {l : Launch} {D : va_G} {s0 : S0} (hG : G0 D s0) {o : Nat} {p0 : Option Nat} {p1 : Option Nat} {h : AH} {Q : AH → Prop} (hw : wp_J2_init_2 o p0 p1 h Q) : OKm l D s0 yJ2_init_2 cJ2_init_2 5 none 6 178 [vA (some o), vA p0, vA p1] h (QV Q) := by
  refine x_metF hG (by decide +kernel) (own := RJ2) (mn := "<init>") rfl rfl (L0 := [(0, vA (some o)), (1, vA p0), (2, vA p1)]) rfl rfl ?_
  intro K C
  unfold wp_J2_init_2 at hw
  refine x_b C (pc' := 1) (L' := [(0, vA (some o)), (1, vA p0), (2, vA p1)]) (st' := [vA (some o)]) [(.aload_n 0, 1)] ⟨dJ2_init_2_0, rfl⟩ rfl ?_
  refine x_objI C 4 [] dJ2_init_2_1 rfl q463 q208 q209 ⟨rfl, rfl⟩ ?_
  refine x_b C (pc' := 5) (L' := [(0, vA (some o)), (1, vA p0), (2, vA p1)]) (st' := [vA p0]) [(.aload_n 1, 1)] ⟨dJ2_init_2_4, rfl⟩ rfl ?_
  have hn1 := hw.1
  replace hw := hw.2
  refine x_cU C 21 8 (x := ⟨"java/lang/AbstractStringBuilder", "getValue", "()[B"⟩) (mc2 := 0) (ms2 := 0) [] [] dJ2_init_2_5 rfl (ok_J0_getValue hG hw) ⟨Nat.zero_le _, Nat.zero_le _⟩ q464 q466 q467 q465 q161 q468 (Or.inl rfl) rfl hx_java_lang_AbstractStringBuilder_getValue ⟨rfl, rfl, rfl⟩ hn1 (fun v9 h3 h4 hq9 eh4 => ?_)
  obtain ⟨r2, rfl, hw⟩ := hq9
  replace hw := hw h4 eh4
  refine x_b C (pc' := 10) (L' := [(3, vA r2), (0, vA (some o)), (1, vA p0), (2, vA p1)]) (st' := [vA p0]) [(.astore_n 3, 1), (.aload_n 1, 1)] ⟨dJ2_init_2_8, dJ2_init_2_9, rfl⟩ rfl ?_
  have hn5 := hw.1
  replace hw := hw.2
  refine x_cU C 21 13 (x := ⟨"java/lang/AbstractStringBuilder", "length", "()I"⟩) (mc2 := 0) (ms2 := 0) [] [] dJ2_init_2_10 rfl (ok_J1_length hG hw) ⟨Nat.zero_le _, Nat.zero_le _⟩ q469 q471 q472 q473 q162 q474 (Or.inr (Or.inr ⟨q470, _, _, _, q476⟩)) rfl hx_java_lang_AbstractStringBuilder_length ⟨rfl, rfl, rfl⟩ hn5 (fun v9 h7 h8 hq9 eh8 => ?_)
  obtain ⟨r6, rfl, hw⟩ := hq9
  replace hw := hw h8 eh8
  refine x_b C (pc' := 16) (L' := [(4, vI r6), (3, vA r2), (0, vA (some o)), (1, vA p0), (2, vA p1)]) (st' := [vA p0]) [(.istore 4, 2), (.aload_n 1, 1)] ⟨dJ2_init_2_13, dJ2_init_2_15, rfl⟩ rfl ?_
  have hn9 := hw.1
  replace hw := hw.2
  refine x_cU C 21 19 (x := ⟨"java/lang/AbstractStringBuilder", "isLatin1", "()Z"⟩) (mc2 := 0) (ms2 := 0) [] [] dJ2_init_2_16 rfl (ok_J0_isLatin1 hG hw) ⟨Nat.zero_le _, Nat.zero_le _⟩ q477 q400 q401 q399 q161 q402 (Or.inl rfl) rfl hx_java_lang_AbstractStringBuilder_isLatin1 ⟨rfl, rfl, rfl⟩ hn9 (fun v9 h11 h12 hq9 eh12 => ?_)
  obtain ⟨r10, rfl, hw⟩ := hq9
  replace hw := hw h12 eh12
  refine x_if_eq C 41 22 dJ2_init_2_19 rfl rfl (fun hc13 => ?_) (fun hc13 => ?_)
  · replace hw := hw.1 hc13
    refine x_gets C 44 (v := vI 1) dJ2_init_2_41 rfl z_cs q487 ?_
    refine x_if_eq C 79 47 dJ2_init_2_44 rfl rfl (fun hc => absurd hc (by decide)) (fun _ => ?_)
    refine x_b C (pc' := 48) (L' := [(4, vI r6), (3, vA r2), (0, vA (some o)), (1, vA p0), (2, vA p1)]) (st' := [vA p0]) [(.aload_n 1, 1)] ⟨dJ2_init_2_47, rfl⟩ rfl ?_
    have hn14 := hw.1
    replace hw := hw.2
    refine x_get C 21 2 (pc' := 51) (v := vI (h12.fi 2102 (adr p0))) dJ2_init_2_48 rfl rfl rfl q345 rfl hn14 ?_
    refine x_if_eq C 79 54 dJ2_init_2_51 rfl rfl (fun hc15 => ?_) (fun hc15 => ?_)
    · replace hw := hw.1 hc15
      refine x_b C (pc' := 81) (L' := [(4, vI r6), (3, vA r2), (0, vA (some o)), (1, vA p0), (2, vA p1)]) (st' := [vI 1, vA (some o)]) [(.aload_n 0, 1), (.iconst 1, 1)] ⟨dJ2_init_2_79, dJ2_init_2_80, rfl⟩ rfl ?_
      have hn16 := hw.1
      replace hw := hw.2
      refine x_pFI C 22 1 84 dJ2_init_2_81 rfl rfl rfl rfl q502 rfl rfl (fun _ _ _ => rfl) rfl rfl hn16 (Or.inr hw.1) (fun h17 eh17 => ?_)
      replace hw := hw.2 h17 eh17
      refine x_b C (pc' := 91) (L' := [(4, vI r6), (3, vA r2), (0, vA (some o)), (1, vA p0), (2, vA p1)]) (st' := [vI (jshl r6 1), vI 0, vA r2, vA (some o)]) [(.aload_n 0, 1), (.aload_n 3, 1), (.iconst 0, 1), (.iload 4, 2), (.iconst 1, 1), (.ishl, 1)] ⟨dJ2_init_2_84, dJ2_init_2_85, dJ2_init_2_86, dJ2_init_2_87, dJ2_init_2_89, dJ2_init_2_90, rfl⟩ rfl ?_
      obtain ⟨mc21, ms22, hle23, hw⟩ := hw
      refine x_cS C 94 (mc2 := mc21) (ms2 := ms22) [vA r2, vI 0, vI (jshl r6 1)] [vA (some o)] dJ2_init_2_91 rfl (ok_J6_copyOfRange hG hw) hle23 q478 q479 q167 q480 hd_J6_copyOfRange ⟨rfl, rfl, rfl⟩ (fun v9 h19 h20 hq9 eh20 => ?_)
      obtain ⟨r18, rfl, hw⟩ := hq9
      replace hw := hw h20 eh20
      have hn24 := hw.1
      replace hw := hw.2
      refine x_pFA C 22 0 97 dJ2_init_2_94 rfl rfl rfl rfl q501 rfl rfl (fun _ _ _ => rfl) (rf_n2 _) (rf_f2 _) hn24 (Or.inr hw.1) (fun h25 eh25 => ?_)
      replace hw := hw.2 h25 eh25
      exact x_vret C dJ2_init_2_97 ⟨rfl, hw⟩
    · replace hw := hw.2 hc15
      refine x_b C (pc' := 59) (L' := [(4, vI r6), (3, vA r2), (0, vA (some o)), (1, vA p0), (2, vA p1)]) (st' := [vI r6, vI 0, vA r2, vA (some o)]) [(.aload_n 0, 1), (.aload_n 3, 1), (.iconst 0, 1), (.iload 4, 2)] ⟨dJ2_init_2_54, dJ2_init_2_55, dJ2_init_2_56, dJ2_init_2_57, rfl⟩ rfl ?_
      obtain ⟨mc29, ms30, hle31, hw⟩ := hw
      refine x_cS C 62 (mc2 := mc29) (ms2 := ms30) [vA r2, vI 0, vI r6] [vA (some o)] dJ2_init_2_59 rfl (ok_J3_compress hG hw) hle31 q488 q489 q164 q490 hd_J3_compress ⟨rfl, rfl, rfl⟩ (fun v9 h27 h28 hq9 eh28 => ?_)
      obtain ⟨r26, rfl, hw⟩ := hq9
      replace hw := hw h28 eh28
      have hn32 := hw.1
      replace hw := hw.2
      refine x_pFA C 22 0 65 dJ2_init_2_62 rfl rfl rfl rfl q501 rfl rfl (fun _ _ _ => rfl) (rf_n2 _) (rf_f2 _) hn32 (Or.inr hw.1) (fun h33 eh33 => ?_)
      replace hw := hw.2 h33 eh33
      refine x_b C (pc' := 67) (L' := [(4, vI r6), (3, vA r2), (0, vA (some o)), (1, vA p0), (2, vA p1)]) (st' := [vA (some o), vA (some o)]) [(.aload_n 0, 1), (.aload_n 0, 1)] ⟨dJ2_init_2_65, dJ2_init_2_66, rfl⟩ rfl ?_
      refine x_get C 22 0 (pc' := 70) (v := vA (h33.fr 2200 o)) dJ2_init_2_67 rfl rfl rfl q501 rfl (nn_eq eh33 hn32 rfl) ?_
      refine x_b C (pc' := 72) (L' := [(4, vI r6), (3, vA r2), (0, vA (some o)), (1, vA p0), (2, vA p1)]) (st' := [vI r6, vA (h33.fr 2200 o), vA (some o)]) [(.iload 4, 2)] ⟨dJ2_init_2_70, rfl⟩ rfl ?_
      refine x_cS C 75 (mc2 := 0) (ms2 := 0) [vA (h33.fr 2200 o), vI r6] [vA (some o)] dJ2_init_2_72 rfl (ok_J3_coderFromArrayLen hG hw) ⟨Nat.zero_le _, Nat.zero_le _⟩ q498 q499 q164 q500 hd_J3_coderFromArrayLen ⟨rfl, rfl, rfl⟩ (fun v9 h35 h36 hq9 eh36 => ?_)
      obtain ⟨r34, rfl, hw⟩ := hq9
      replace hw := hw h36 eh36
      have hn37 := hw.1
      replace hw := hw.2
      refine x_pFI C 22 1 78 dJ2_init_2_75 rfl rfl rfl rfl q502 rfl rfl (fun _ _ _ => rfl) hw.1.1 hw.1.2 hn37 (Or.inr hw.2.1) (fun h38 eh38 => ?_)
      replace hw := hw.2.2 h38 eh38
      exact x_vret C dJ2_init_2_78 ⟨rfl, hw⟩
  · replace hw := hw.2 hc13
    refine x_b C (pc' := 24) (L' := [(4, vI r6), (3, vA r2), (0, vA (some o)), (1, vA p0), (2, vA p1)]) (st' := [vI 0, vA (some o)]) [(.aload_n 0, 1), (.iconst 0, 1)] ⟨dJ2_init_2_22, dJ2_init_2_23, rfl⟩ rfl ?_
    have hn39 := hw.1
    replace hw := hw.2
    refine x_pFI C 22 1 27 dJ2_init_2_24 rfl rfl rfl rfl q502 rfl rfl (fun _ _ _ => rfl) rfl rfl hn39 (Or.inr hw.1) (fun h40 eh40 => ?_)
    replace hw := hw.2 h40 eh40
    refine x_b C (pc' := 32) (L' := [(4, vI r6), (3, vA r2), (0, vA (some o)), (1, vA p0), (2, vA p1)]) (st' := [vI r6, vI 0, vA r2, vA (some o)]) [(.aload_n 0, 1), (.aload_n 3, 1), (.iconst 0, 1), (.iload 4, 2)] ⟨dJ2_init_2_27, dJ2_init_2_28, dJ2_init_2_29, dJ2_init_2_30, rfl⟩ rfl ?_
    obtain ⟨mc44, ms45, hle46, hw⟩ := hw
    refine x_cS C 35 (mc2 := mc44) (ms2 := ms45) [vA r2, vI 0, vI r6] [vA (some o)] dJ2_init_2_32 rfl (ok_J6_copyOfRange hG hw) hle46 q478 q479 q167 q480 hd_J6_copyOfRange ⟨rfl, rfl, rfl⟩ (fun v9 h42 h43 hq9 eh43 => ?_)
    obtain ⟨r41, rfl, hw⟩ := hq9
    replace hw := hw h43 eh43
    have hn47 := hw.1
    replace hw := hw.2
    refine x_pFA C 22 0 38 dJ2_init_2_35 rfl rfl rfl rfl q501 rfl rfl (fun _ _ _ => rfl) (rf_n2 _) (rf_f2 _) hn47 (Or.inr hw.1) (fun h48 eh48 => ?_)
    replace hw := hw.2 h48 eh48
    refine x_goto C 97 dJ2_init_2_38 rfl ?_
    exact x_vret C dJ2_init_2_97 ⟨rfl, hw⟩
def wp_J2_init (o : Nat) (p0 : Option Nat) (h : AH) (Q : AH → Prop) : Prop :=
  cl h fun mc4 ms5 => wp_J2_init_2 o p0 none (h.srm mc4 ms5) fun h2 => ∀ h3, h3 = h2.srm (h.rc - mc4) (h.rs - ms5) →
  Q h3
theorem hd_J2_init : yJ2_init.name = "<init>" ∧ yJ2_init.cls ≠ "java/lang/invoke/MethodHandle" ∧ yJ2_init.cls ≠ "java/lang/invoke/VarHandle" ∧ (parseMethodDescriptor yJ2_init.desc).map (fun d => d.parameters.length) = some 1 := by decide +kernel
theorem ok_J2_init {l : Launch} {D : va_G} {s0 : S0} (hG : G0 D s0) {o : Nat} {p0 : Option Nat} {h : AH} {Q : AH → Prop} (hw : wp_J2_init o p0 h Q) : OKm l D s0 yJ2_init cJ2_init 2 none 7 202 [vA (some o), vA p0] h (QV Q) := by
  refine x_metF hG (by decide +kernel) (own := RJ2) (mn := "<init>") rfl rfl (L0 := [(0, vA (some o)), (1, vA p0)]) rfl rfl ?_
  intro K C
  unfold wp_J2_init at hw
  refine x_b C (pc' := 3) (L' := [(0, vA (some o)), (1, vA p0)]) (st' := [vA none, vA p0, vA (some o)]) [(.aload_n 0, 1), (.aload_n 1, 1), (.aconst_null, 1)] ⟨dJ2_init_0, dJ2_init_1, dJ2_init_2, rfl⟩ rfl ?_
  obtain ⟨mc4, ms5, hle6, hw⟩ := hw
  refine x_cI C 6 (mc2 := mc4) (ms2 := ms5) [vA p0, vA none] [] dJ2_init_3 rfl (ok_J2_init_2 hG hw) hle6 q460 q461 q163 q462 hd_J2_init_2 ⟨rfl, rfl, rfl⟩ (fun v9 h2 h3 hq9 eh3 => ?_)
  obtain ⟨rfl, hw⟩ := hq9
  replace hw := hw h3 eh3
  exact x_vret C dJ2_init_6 ⟨rfl, hw⟩
def wp_J1_toString (o : Nat) (h : AH) (Q : Option Nat → AH → Prop) : Prop :=
  nr h 4 ∧
  ∀ h1, h1 = h.new 22 0 4 →
  cl h1 fun mc5 ms6 => wp_J2_init h.sz (some o) (h1.srm mc5 ms6) fun h3 => ∀ h4, h4 = h3.srm (h1.rc - mc5) (h1.rs - ms6) →
  Q (some h.sz) h4
theorem hd_J1_toString : yJ1_toString.cls = RJ1 ∧ yJ1_toString.cls ≠ "java/lang/invoke/MethodHandle" ∧ yJ1_toString.cls ≠ "java/lang/invoke/VarHandle" ∧ (parseMethodDescriptor yJ1_toString.desc).map (fun d => d.parameters.length) = some 0 := by decide +kernel
theorem ok_J1_toString {l : Launch} {D : va_G} {s0 : S0} (hG : G0 D s0) {o : Nat} {h : AH} {Q : Option Nat → AH → Prop} (hw : wp_J1_toString o h Q) : OKm l D s0 yJ1_toString cJ1_toString 1 (some (.object "java/lang/String")) 8 223 [vA (some o)] h (QA Q) := by
  refine x_metF hG (by decide +kernel) (own := RJ1) (mn := "toString") rfl rfl (L0 := [(0, vA (some o))]) rfl rfl ?_
  intro K C
  unfold wp_J1_toString at hw
  refine x_new C 22 3 dJ1_toString_0 rfl rfl q455 q456 q163 hw.1 (fun h1 eh1 => ?_)
  replace hw := hw.2 h1 eh1
  refine x_b C (pc' := 5) (L' := [(0, vA (some o))]) (st' := [vA (some o), vA (some h.sz), vA (some h.sz)]) [(.dup, 1), (.aload_n 0, 1)] ⟨dJ1_toString_3, dJ1_toString_4, rfl⟩ rfl ?_
  obtain ⟨mc5, ms6, hle7, hw⟩ := hw
  refine x_cI C 8 (mc2 := mc5) (ms2 := ms6) [vA (some o)] [vA (some h.sz)] dJ1_toString_5 rfl (ok_J2_init hG hw) hle7 q457 q458 q163 q459 hd_J2_init ⟨rfl, rfl, rfl⟩ (fun v9 h3 h4 hq9 eh4 => ?_)
  obtain ⟨rfl, hw⟩ := hq9
  replace hw := hw h4 eh4
  exact x_aret C dJ1_toString_8 (Or.inl ⟨_, rfl⟩) ⟨_, rfl, hw⟩
def wp_J20_intValue (o : Nat) (h : AH) (Q : Int32 → AH → Prop) : Prop :=
  nn h (some o) 25 ∧
  Q (h.fi 2500 o) h
theorem hd_J20_intValue : yJ20_intValue.cls = RJ20 ∧ yJ20_intValue.cls ≠ "java/lang/invoke/MethodHandle" ∧ yJ20_intValue.cls ≠ "java/lang/invoke/VarHandle" ∧ (parseMethodDescriptor yJ20_intValue.desc).map (fun d => d.parameters.length) = some 0 := by decide +kernel
theorem ok_J20_intValue {l : Launch} {D : va_G} {s0 : S0} (hG : G0 D s0) {o : Nat} {h : AH} {Q : Int32 → AH → Prop} (hw : wp_J20_intValue o h Q) : OKm l D s0 yJ20_intValue cJ20_intValue 1 (some .int) 0 0 [vA (some o)] h (QI Q) := by
  refine x_metF hG (by decide +kernel) (own := RJ20) (mn := "intValue") rfl rfl (L0 := [(0, vA (some o))]) rfl rfl ?_
  intro K C
  unfold wp_J20_intValue at hw
  refine x_b C (pc' := 1) (L' := [(0, vA (some o))]) (st' := [vA (some o)]) [(.aload_n 0, 1)] ⟨dJ20_intValue_0, rfl⟩ rfl ?_
  have hn1 := hw.1
  replace hw := hw.2
  refine x_get C 25 0 (pc' := 4) (v := vI (h.fi 2500 o)) dJ20_intValue_1 rfl rfl rfl q1579 rfl hn1 ?_
  exact x_iret C dJ20_intValue_4 ⟨_, rfl, hw⟩
def wp_J20_equals (o : Nat) (p0 : Option Nat) (h : AH) (Q : Int32 → AH → Prop) : Prop :=
  nn h p0 25 ∧
  nn h (some o) 25 ∧
  ca h p0 25 ∧
  wp_J20_intValue (adr p0) (h.srm 0 0) fun r3 h4 => ∀ h5, h5 = h4.srm h.rc h.rs →
  ∀ m6 : Int32, m6 = (if (h.fi 2500 o) = r3 then 1 else 0) →
  bz m6 ∧ Q m6 h5
theorem hd_J20_equals : yJ20_equals.cls = RJ20 ∧ yJ20_equals.cls ≠ "java/lang/invoke/MethodHandle" ∧ yJ20_equals.cls ≠ "java/lang/invoke/VarHandle" ∧ (parseMethodDescriptor yJ20_equals.desc).map (fun d => d.parameters.length) = some 1 := by decide +kernel
theorem ok_J20_equals {l : Launch} {D : va_G} {s0 : S0} (hG : G0 D s0) {o : Nat} {p0 : Option Nat} {h : AH} {Q : Int32 → AH → Prop} (hw : wp_J20_equals o p0 h Q) : OKm l D s0 yJ20_equals cJ20_equals 2 (some .boolean) 1 60 [vA (some o), vA p0] h (QI Q) := by
  refine x_metF hG (by decide +kernel) (own := RJ20) (mn := "equals") rfl rfl (L0 := [(0, vA (some o)), (1, vA p0)]) rfl rfl ?_
  intro K C
  unfold wp_J20_equals at hw
  refine x_b C (pc' := 1) (L' := [(0, vA (some o)), (1, vA p0)]) (st' := [vA p0]) [(.aload_n 1, 1)] ⟨dJ20_equals_0, rfl⟩ rfl ?_
  have hn1 := hw.1
  replace hw := hw.2
  refine x_inst C 25 4 dJ20_equals_1 rfl rfl q964 hn1 ?_
  refine x_if_eq C 27 7 dJ20_equals_4 rfl rfl (fun hc => absurd hc (by decide)) (fun _ => ?_)
  refine x_b C (pc' := 8) (L' := [(0, vA (some o)), (1, vA p0)]) (st' := [vA (some o)]) [(.aload_n 0, 1)] ⟨dJ20_equals_7, rfl⟩ rfl ?_
  have hn2 := hw.1
  replace hw := hw.2
  refine x_get C 25 0 (pc' := 11) (v := vI (h.fi 2500 o)) dJ20_equals_8 rfl rfl rfl q1579 rfl hn2 ?_
  refine x_b C (pc' := 12) (L' := [(0, vA (some o)), (1, vA p0)]) (st' := [vA p0, vI (h.fi 2500 o)]) [(.aload_n 1, 1)] ⟨dJ20_equals_11, rfl⟩ rfl ?_
  refine x_cast C 25 15 dJ20_equals_12 rfl rfl q964 hw.1 ?_
  replace hw := hw.2
  refine x_cV C 25 18 (mc2 := 0) (ms2 := 0) [] [vI (h.fi 2500 o)] dJ20_equals_15 rfl (ok_J20_intValue hG hw) ⟨Nat.zero_le _, Nat.zero_le _⟩ q965 q966 q967 q193 q968 rfl hd_J20_intValue ⟨rfl, rfl, rfl⟩ hn1 (fun v9 h4 h5 hq9 eh5 => ?_)
  obtain ⟨r3, rfl, hw⟩ := hq9
  replace hw := hw h5 eh5
  have kj7 : ∀ (m6 : Int32), m6 = (if (h.fi 2500 o) = r3 then 1 else 0) → K 26 [] [vI m6] h5 := by
    intro m6 em6
    replace hw := hw m6 em6
    exact x_zret C dJ20_equals_26 (bz_n hw.1) ⟨_, rfl, hw.2⟩
  refine x_icmp_ne C 25 21 dJ20_equals_18 rfl rfl (fun hc8 => ?_) (fun hc8 => ?_)
  · refine x_b C (pc' := 26) (L' := [(0, vA (some o)), (1, vA p0)]) (st' := [vI 0]) [(.iconst 0, 1)] ⟨dJ20_equals_25, rfl⟩ rfl ?_
    refine x_sub C (L' := []) [] rfl ?_
    exact kj7 _ ((if_neg hc8).symm)
  · refine x_b C (pc' := 22) (L' := [(0, vA (some o)), (1, vA p0)]) (st' := [vI 1]) [(.iconst 1, 1)] ⟨dJ20_equals_21, rfl⟩ rfl ?_
    refine x_goto C 26 dJ20_equals_22 rfl ?_
    refine x_sub C (L' := []) [] rfl ?_
    exact kj7 _ ((if_pos hc8).symm)
def wp_J20_init (o : Nat) (p0 : Int32) (h : AH) (Q : AH → Prop) : Prop :=
  wp_J19_init o (h.srm 0 0) fun h2 => ∀ h3, h3 = h2.srm h.rc h.rs →
  nn h3 (some o) 25 ∧
  h3.lo ≤ o ∧
  ∀ h5, h5 = h3.sfi 2500 o p0 →
  Q h5
theorem hd_J20_init : yJ20_init.name = "<init>" ∧ yJ20_init.cls ≠ "java/lang/invoke/MethodHandle" ∧ yJ20_init.cls ≠ "java/lang/invoke/VarHandle" ∧ (parseMethodDescriptor yJ20_init.desc).map (fun d => d.parameters.length) = some 1 := by decide +kernel
theorem ok_J20_init {l : Launch} {D : va_G} {s0 : S0} (hG : G0 D s0) {o : Nat} {p0 : Int32} {h : AH} {Q : AH → Prop} (hw : wp_J20_init o p0 h Q) : OKm l D s0 yJ20_init cJ20_init 2 none 2 80 [vA (some o), vI p0] h (QV Q) := by
  refine x_metF hG (by decide +kernel) (own := RJ20) (mn := "<init>") rfl rfl (L0 := [(0, vA (some o)), (1, vI p0)]) rfl rfl ?_
  intro K C
  unfold wp_J20_init at hw
  refine x_b C (pc' := 1) (L' := [(0, vA (some o)), (1, vI p0)]) (st' := [vA (some o)]) [(.aload_n 0, 1)] ⟨dJ20_init_0, rfl⟩ rfl ?_
  refine x_cI C 4 (mc2 := 0) (ms2 := 0) [] [] dJ20_init_1 rfl (ok_J19_init hG hw) ⟨Nat.zero_le _, Nat.zero_le _⟩ q1575 q1576 q192 q1577 hd_J19_init ⟨rfl, rfl, rfl⟩ (fun v9 h2 h3 hq9 eh3 => ?_)
  obtain ⟨rfl, hw⟩ := hq9
  replace hw := hw h3 eh3
  refine x_b C (pc' := 6) (L' := [(0, vA (some o)), (1, vI p0)]) (st' := [vI p0, vA (some o)]) [(.aload_n 0, 1), (.iload_n 1, 1)] ⟨dJ20_init_4, dJ20_init_5, rfl⟩ rfl ?_
  have hn4 := hw.1
  replace hw := hw.2
  refine x_pFI C 25 0 9 dJ20_init_6 rfl rfl rfl rfl q1579 rfl rfl (fun _ _ _ => rfl) rfl rfl hn4 (Or.inr hw.1) (fun h5 eh5 => ?_)
  replace hw := hw.2 h5 eh5
  exact x_vret C dJ20_init_9 ⟨rfl, hw⟩
def wp_J20_valueOf (p0 : Int32) (h : AH) (Q : Option Nat → AH → Prop) : Prop :=
  ((p0 < (-128) →
  nr h 1 ∧
  ∀ h2, h2 = h.new 25 0 1 →
  wp_J20_init h.sz p0 (h2.srm 0 0) fun h4 => ∀ h5, h5 = h4.srm h2.rc h2.rs →
  Q (some h.sz) h5) ∧ (¬ p0 < (-128) →
  ((127 < p0 →
  nr h 1 ∧
  ∀ h7, h7 = h.new 25 0 1 →
  wp_J20_init h.sz p0 (h7.srm 0 0) fun h9 => ∀ h10, h10 = h9.srm h7.rc h7.rs →
  Q (some h.sz) h10) ∧ (¬ 127 < p0 →
  ix h (sref (h.cs 500)) 48 (p0 + 128) ∧
  Q (h.ar (adr (sref (h.cs 500))) (ni (p0 + 128))) h))))
theorem hd_J20_valueOf : yJ20_valueOf.cls ≠ "java/lang/invoke/MethodHandle" ∧ yJ20_valueOf.cls ≠ "java/lang/invoke/VarHandle" ∧ (parseMethodDescriptor yJ20_valueOf.desc).map (fun d => d.parameters.length) = some 1 := by decide +kernel
theorem ok_J20_valueOf {l : Launch} {D : va_G} {s0 : S0} (hG : G0 D s0) {p0 : Int32} {h : AH} {Q : Option Nat → AH → Prop} (hw : wp_J20_valueOf p0 h Q) : OKm l D s0 yJ20_valueOf cJ20_valueOf 1 (some (.object "java/lang/Integer")) 3 101 [vI p0] h (QA Q) := by
  refine x_metF hG (by decide +kernel) (own := RJ20) (mn := "valueOf") rfl rfl (L0 := [(0, vI p0)]) rfl rfl ?_
  intro K C
  unfold wp_J20_valueOf at hw
  refine x_b C (pc' := 3) (L' := [(0, vI p0)]) (st' := [vI (-128), vI p0]) [(.iload_n 0, 1), (.bipush (-128), 2)] ⟨dJ20_valueOf_0, dJ20_valueOf_1, rfl⟩ rfl ?_
  refine x_icmp_lt C 23 6 dJ20_valueOf_3 rfl rfl (fun hc1 => ?_) (fun hc1 => ?_)
  · replace hw := hw.1 hc1
    refine x_new C 25 26 dJ20_valueOf_23 rfl rfl q964 q1571 q193 hw.1 (fun h2 eh2 => ?_)
    replace hw := hw.2 h2 eh2
    refine x_b C (pc' := 28) (L' := [(0, vI p0)]) (st' := [vI p0, vA (some h.sz), vA (some h.sz)]) [(.dup, 1), (.iload_n 0, 1)] ⟨dJ20_valueOf_26, dJ20_valueOf_27, rfl⟩ rfl ?_
    refine x_cI C 31 (mc2 := 0) (ms2 := 0) [vI p0] [vA (some h.sz)] dJ20_valueOf_28 rfl (ok_J20_init hG hw) ⟨Nat.zero_le _, Nat.zero_le _⟩ q1572 q1573 q193 q1574 hd_J20_init ⟨rfl, rfl, rfl⟩ (fun v9 h4 h5 hq9 eh5 => ?_)
    obtain ⟨rfl, hw⟩ := hq9
    replace hw := hw h5 eh5
    exact x_aret C dJ20_valueOf_31 (Or.inl ⟨_, rfl⟩) ⟨_, rfl, hw⟩
  · replace hw := hw.2 hc1
    refine x_b C (pc' := 7) (L' := [(0, vI p0)]) (st' := [vI p0]) [(.iload_n 0, 1)] ⟨dJ20_valueOf_6, rfl⟩ rfl ?_
    refine x_gets C 10 (v := vI 127) dJ20_valueOf_7 rfl z_high q1567 ?_
    refine x_icmp_gt C 23 13 dJ20_valueOf_10 rfl rfl (fun hc6 => ?_) (fun hc6 => ?_)
    · replace hw := hw.1 hc6
      refine x_new C 25 26 dJ20_valueOf_23 rfl rfl q964 q1571 q193 hw.1 (fun h7 eh7 => ?_)
      replace hw := hw.2 h7 eh7
      refine x_b C (pc' := 28) (L' := [(0, vI p0)]) (st' := [vI p0, vA (some h.sz), vA (some h.sz)]) [(.dup, 1), (.iload_n 0, 1)] ⟨dJ20_valueOf_26, dJ20_valueOf_27, rfl⟩ rfl ?_
      refine x_cI C 31 (mc2 := 0) (ms2 := 0) [vI p0] [vA (some h.sz)] dJ20_valueOf_28 rfl (ok_J20_init hG hw) ⟨Nat.zero_le _, Nat.zero_le _⟩ q1572 q1573 q193 q1574 hd_J20_init ⟨rfl, rfl, rfl⟩ (fun v9 h9 h10 hq9 eh10 => ?_)
      obtain ⟨rfl, hw⟩ := hq9
      replace hw := hw h10 eh10
      exact x_aret C dJ20_valueOf_31 (Or.inl ⟨_, rfl⟩) ⟨_, rfl, hw⟩
    · replace hw := hw.2 hc6
      refine x_getsR C 500 16 dJ20_valueOf_13 rfl z_cache q1569 ?_
      refine x_b C (pc' := 21) (L' := [(0, vI p0)]) (st' := [vI (p0 + 128), vA (sref (h.cs 500))]) [(.iload_n 0, 1), (.sipush 128, 3), (.iadd, 1)] ⟨dJ20_valueOf_16, dJ20_valueOf_17, dJ20_valueOf_20, rfl⟩ rfl ?_
      refine x_aald C 48 22 dJ20_valueOf_21 rfl rfl ⟨rfl, fun _ _ => rfl⟩ hw.1 ?_
      replace hw := hw.2
      exact x_aret C dJ20_valueOf_22 (Or.inl ⟨_, rfl⟩) ⟨_, rfl, hw⟩
def wp_J22_getUTF16Char (o : Nat) (p0 : Option Nat) (p1 : Int32) (h : AH) (Q : Int32 → AH → Prop) : Prop :=
  cl h fun mc4 ms5 => wp_J3_getChar p0 p1 (h.srm mc4 ms5) fun r1 h2 => ∀ h3, h3 = h2.srm (h.rc - mc4) (h.rs - ms5) →
  narrow .char (.int r1) = .int r1 ∧ Q r1 h3
theorem hd_J22_getUTF16Char : yJ22_getUTF16Char.cls = RJ22 ∧ yJ22_getUTF16Char.cls ≠ "java/lang/invoke/MethodHandle" ∧ yJ22_getUTF16Char.cls ≠ "java/lang/invoke/VarHandle" ∧ (parseMethodDescriptor yJ22_getUTF16Char.desc).map (fun d => d.parameters.length) = some 2 := by decide +kernel
theorem ok_J22_getUTF16Char {l : Launch} {D : va_G} {s0 : S0} (hG : G0 D s0) {o : Nat} {p0 : Option Nat} {p1 : Int32} {h : AH} {Q : Int32 → AH → Prop} (hw : wp_J22_getUTF16Char o p0 p1 h Q) : OKm l D s0 yJ22_getUTF16Char cJ22_getUTF16Char 3 (some .char) 2 81 [vA (some o), vA p0, vI p1] h (QI Q) := by
  refine x_metF hG (by decide +kernel) (own := RJ22) (mn := "getUTF16Char") rfl rfl (L0 := [(0, vA (some o)), (1, vA p0), (2, vI p1)]) rfl rfl ?_
  intro K C
  unfold wp_J22_getUTF16Char at hw
  refine x_b C (pc' := 2) (L' := [(0, vA (some o)), (1, vA p0), (2, vI p1)]) (st' := [vI p1, vA p0]) [(.aload_n 1, 1), (.iload_n 2, 1)] ⟨dJ22_getUTF16Char_0, dJ22_getUTF16Char_1, rfl⟩ rfl ?_
  obtain ⟨mc4, ms5, hle6, hw⟩ := hw
  refine x_cS C 5 (mc2 := mc4) (ms2 := ms5) [vA p0, vI p1] [] dJ22_getUTF16Char_2 rfl (ok_J3_getChar hG hw) hle6 q822 q495 q164 q496 hd_J3_getChar ⟨rfl, rfl, rfl⟩ (fun v9 h2 h3 hq9 eh3 => ?_)
  obtain ⟨r1, rfl, hw⟩ := hq9
  replace hw := hw h3 eh3
  exact x_zret C dJ22_getUTF16Char_5 hw.1 ⟨_, rfl, hw.2⟩
def wp_J8_checkFromToIndex (p0 : Int32) (p1 : Int32) (p2 : Int32) (p3 : Option Nat) (h : AH) (Q : Int32 → AH → Prop) : Prop :=
  ((((p0 < 0) ∨ ((p1 < p0) ∨ ¬ (p1 ≤ p2))) →
  False) ∧ (¬ ((p0 < 0) ∨ ((p1 < p0) ∨ ¬ (p1 ≤ p2))) →
  Q p0 h))
theorem hd_J8_checkFromToIndex : yJ8_checkFromToIndex.cls ≠ "java/lang/invoke/MethodHandle" ∧ yJ8_checkFromToIndex.cls ≠ "java/lang/invoke/VarHandle" ∧ (parseMethodDescriptor yJ8_checkFromToIndex.desc).map (fun d => d.parameters.length) = some 4 := by decide +kernel
theorem ok_J8_checkFromToIndex {l : Launch} {D : va_G} {s0 : S0} (hG : G0 D s0) {p0 : Int32} {p1 : Int32} {p2 : Int32} {p3 : Option Nat} {h : AH} {Q : Int32 → AH → Prop} (hw : wp_J8_checkFromToIndex p0 p1 p2 p3 h Q) : OKm l D s0 yJ8_checkFromToIndex cJ8_checkFromToIndex 4 (some .int) 1 60 [vI p0, vI p1, vI p2, vA p3] h (QI Q) := by
  refine x_metF hG (by decide +kernel) (own := RJ8) (mn := "checkFromToIndex") rfl rfl (L0 := [(0, vI p0), (1, vI p1), (2, vI p2), (3, vA p3)]) rfl rfl ?_
  intro K C
  unfold wp_J8_checkFromToIndex at hw
  refine x_b C (pc' := 1) (L' := [(0, vI p0), (1, vI p1), (2, vI p2), (3, vA p3)]) (st' := [vI p0]) [(.iload_n 0, 1)] ⟨dJ8_checkFromToIndex_0, rfl⟩ rfl ?_
  have kx1 : ((p0 < 0) ∨ ((p1 < p0) ∨ ¬ (p1 ≤ p2))) → K 14 [(0, vI p0), (1, vI p1), (2, vI p2), (3, vA p3)] [] h := by
    intro hcc
    replace hw := hw.1 hcc
    refine x_b C (pc' := 18) (L' := [(0, vI p0), (1, vI p1), (2, vI p2), (3, vA p3)]) (st' := [vI p2, vI p1, vI p0, vA p3]) [(.aload_n 3, 1), (.iload_n 0, 1), (.iload_n 1, 1), (.iload_n 2, 1)] ⟨dJ8_checkFromToIndex_14, dJ8_checkFromToIndex_15, dJ8_checkFromToIndex_16, dJ8_checkFromToIndex_17, rfl⟩ rfl ?_
    exact hw.elim
  have ky2 : ¬ ((p0 < 0) ∨ ((p1 < p0) ∨ ¬ (p1 ≤ p2))) → K 23 [(0, vI p0), (1, vI p1), (2, vI p2), (3, vA p3)] [vI p0] h := by
    intro hcc
    replace hw := hw.2 hcc
    exact x_iret C dJ8_checkFromToIndex_23 ⟨_, rfl, hw⟩
  refine x_if_lt C 14 4 dJ8_checkFromToIndex_1 rfl rfl (fun hc3 => ?_) (fun hc3 => ?_)
  · exact kx1 (Or.inl hc3)
  · refine x_b C (pc' := 6) (L' := [(0, vI p0), (1, vI p1), (2, vI p2), (3, vA p3)]) (st' := [vI p1, vI p0]) [(.iload_n 0, 1), (.iload_n 1, 1)] ⟨dJ8_checkFromToIndex_4, dJ8_checkFromToIndex_5, rfl⟩ rfl ?_
    refine x_icmp_gt C 14 9 dJ8_checkFromToIndex_6 rfl rfl (fun hc4 => ?_) (fun hc4 => ?_)
    · exact kx1 (Or.inr (Or.inl hc4))
    · refine x_b C (pc' := 11) (L' := [(0, vI p0), (1, vI p1), (2, vI p2), (3, vA p3)]) (st' := [vI p2, vI p1]) [(.iload_n 1, 1), (.iload_n 2, 1)] ⟨dJ8_checkFromToIndex_9, dJ8_checkFromToIndex_10, rfl⟩ rfl ?_
      refine x_icmp_le C 22 14 dJ8_checkFromToIndex_11 rfl rfl (fun hc5 => ?_) (fun hc5 => ?_)
      · refine x_b C (pc' := 23) (L' := [(0, vI p0), (1, vI p1), (2, vI p2), (3, vA p3)]) (st' := [vI p0]) [(.iload_n 0, 1)] ⟨dJ8_checkFromToIndex_22, rfl⟩ rfl ?_
        exact ky2 (fun h0 => h0.elim hc3 (fun h0 => h0.elim hc4 (fun h0 => h0 hc5)))
      · exact kx1 (Or.inr (Or.inr hc5))
def wp_J2_checkBoundsBeginEnd (p0 : Int32) (p1 : Int32) (p2 : Int32) (h : AH) (Q : AH → Prop) : Prop :=
  wp_J8_checkFromToIndex p0 p1 p2 (sref (h.cs 506)) (h.srm 0 0) fun r1 h2 => ∀ h3, h3 = h2.srm h.rc h.rs →
  Q h3
theorem hd_J2_checkBoundsBeginEnd : yJ2_checkBoundsBeginEnd.cls ≠ "java/lang/invoke/MethodHandle" ∧ yJ2_checkBoundsBeginEnd.cls ≠ "java/lang/invoke/VarHandle" ∧ (parseMethodDescriptor yJ2_checkBoundsBeginEnd.desc).map (fun d => d.parameters.length) = some 3 := by decide +kernel
theorem ok_J2_checkBoundsBeginEnd {l : Launch} {D : va_G} {s0 : S0} (hG : G0 D s0) {p0 : Int32} {p1 : Int32} {p2 : Int32} {h : AH} {Q : AH → Prop} (hw : wp_J2_checkBoundsBeginEnd p0 p1 p2 h Q) : OKm l D s0 yJ2_checkBoundsBeginEnd cJ2_checkBoundsBeginEnd 3 none 2 83 [vI p0, vI p1, vI p2] h (QV Q) := by
  refine x_metF hG (by decide +kernel) (own := RJ2) (mn := "checkBoundsBeginEnd") rfl rfl (L0 := [(0, vI p0), (1, vI p1), (2, vI p2)]) rfl rfl ?_
  intro K C
  unfold wp_J2_checkBoundsBeginEnd at hw
  refine x_b C (pc' := 3) (L' := [(0, vI p0), (1, vI p1), (2, vI p2)]) (st' := [vI p2, vI p1, vI p0]) [(.iload_n 0, 1), (.iload_n 1, 1), (.iload_n 2, 1)] ⟨dJ2_checkBoundsBeginEnd_0, dJ2_checkBoundsBeginEnd_1, dJ2_checkBoundsBeginEnd_2, rfl⟩ rfl ?_
  refine x_getsR C 506 6 dJ2_checkBoundsBeginEnd_3 rfl z_sf q425 ?_
  refine x_cS C 9 (mc2 := 0) (ms2 := 0) [vI p0, vI p1, vI p2, vA (sref (h.cs 506))] [] dJ2_checkBoundsBeginEnd_6 rfl (ok_J8_checkFromToIndex hG hw) ⟨Nat.zero_le _, Nat.zero_le _⟩ q561 q562 q170 q563 hd_J8_checkFromToIndex ⟨rfl, rfl, rfl⟩ (fun v9 h2 h3 hq9 eh3 => ?_)
  obtain ⟨r1, rfl, hw⟩ := hq9
  replace hw := hw h3 eh3
  refine x_b C (pc' := 10) (L' := [(0, vI p0), (1, vI p1), (2, vI p2)]) (st' := []) [(.pop, 1)] ⟨dJ2_checkBoundsBeginEnd_9, rfl⟩ rfl ?_
  exact x_vret C dJ2_checkBoundsBeginEnd_10 ⟨rfl, hw⟩
def wp_J2_coder (o : Nat) (h : AH) (Q : Int32 → AH → Prop) : Prop :=
  nn h (some o) 22 ∧
  narrow .byte (.int (h.fi 2201 o)) = .int (h.fi 2201 o) ∧ Q (h.fi 2201 o) h
theorem hd_J2_coder : yJ2_coder.cls = RJ2 ∧ yJ2_coder.cls ≠ "java/lang/invoke/MethodHandle" ∧ yJ2_coder.cls ≠ "java/lang/invoke/VarHandle" ∧ (parseMethodDescriptor yJ2_coder.desc).map (fun d => d.parameters.length) = some 0 := by decide +kernel
theorem ok_J2_coder {l : Launch} {D : va_G} {s0 : S0} (hG : G0 D s0) {o : Nat} {h : AH} {Q : Int32 → AH → Prop} (hw : wp_J2_coder o h Q) : OKm l D s0 yJ2_coder cJ2_coder 1 (some .byte) 0 0 [vA (some o)] h (QI Q) := by
  refine x_metF hG (by decide +kernel) (own := RJ2) (mn := "coder") rfl rfl (L0 := [(0, vA (some o))]) rfl rfl ?_
  intro K C
  unfold wp_J2_coder at hw
  refine x_gets C 3 (v := vI 1) dJ2_coder_0 rfl z_cs q487 ?_
  refine x_if_eq C 13 6 dJ2_coder_3 rfl rfl (fun hc => absurd hc (by decide)) (fun _ => ?_)
  refine x_b C (pc' := 7) (L' := [(0, vA (some o))]) (st' := [vA (some o)]) [(.aload_n 0, 1)] ⟨dJ2_coder_6, rfl⟩ rfl ?_
  have hn1 := hw.1
  replace hw := hw.2
  refine x_get C 22 1 (pc' := 10) (v := vI (h.fi 2201 o)) dJ2_coder_7 rfl rfl rfl q502 rfl hn1 ?_
  refine x_goto C 14 dJ2_coder_10 rfl ?_
  exact x_zret C dJ2_coder_14 hw.1 ⟨_, rfl, hw.2⟩
def wp_J2_isLatin1 (o : Nat) (h : AH) (Q : Int32 → AH → Prop) : Prop :=
  nn h (some o) 22 ∧
  ∀ m2 : Int32, m2 = (if (h.fi 2201 o) = 0 then 1 else 0) →
  bz m2 ∧ Q m2 h
theorem hd_J2_isLatin1 : yJ2_isLatin1.cls = RJ2 ∧ yJ2_isLatin1.cls ≠ "java/lang/invoke/MethodHandle" ∧ yJ2_isLatin1.cls ≠ "java/lang/invoke/VarHandle" ∧ (parseMethodDescriptor yJ2_isLatin1.desc).map (fun d => d.parameters.length) = some 0 := by decide +kernel
theorem ok_J2_isLatin1 {l : Launch} {D : va_G} {s0 : S0} (hG : G0 D s0) {o : Nat} {h : AH} {Q : Int32 → AH → Prop} (hw : wp_J2_isLatin1 o h Q) : OKm l D s0 yJ2_isLatin1 cJ2_isLatin1 1 (some .boolean) 0 0 [vA (some o)] h (QI Q) := by
  refine x_metF hG (by decide +kernel) (own := RJ2) (mn := "isLatin1") rfl rfl (L0 := [(0, vA (some o))]) rfl rfl ?_
  intro K C
  unfold wp_J2_isLatin1 at hw
  refine x_gets C 3 (v := vI 1) dJ2_isLatin1_0 rfl z_cs q487 ?_
  refine x_if_eq C 17 6 dJ2_isLatin1_3 rfl rfl (fun hc => absurd hc (by decide)) (fun _ => ?_)
  refine x_b C (pc' := 7) (L' := [(0, vA (some o))]) (st' := [vA (some o)]) [(.aload_n 0, 1)] ⟨dJ2_isLatin1_6, rfl⟩ rfl ?_
  have hn1 := hw.1
  replace hw := hw.2
  refine x_get C 22 1 (pc' := 10) (v := vI (h.fi 2201 o)) dJ2_isLatin1_7 rfl rfl rfl q502 rfl hn1 ?_
  have kj3 : ∀ (m2 : Int32), m2 = (if (h.fi 2201 o) = 0 then 1 else 0) → K 18 [] [vI m2] h := by
    intro m2 em2
    replace hw := hw m2 em2
    exact x_zret C dJ2_isLatin1_18 (bz_n hw.1) ⟨_, rfl, hw.2⟩
  refine x_if_ne C 17 13 dJ2_isLatin1_10 rfl rfl (fun hc4 => ?_) (fun hc4 => ?_)
  · refine x_b C (pc' := 18) (L' := [(0, vA (some o))]) (st' := [vI 0]) [(.iconst 0, 1)] ⟨dJ2_isLatin1_17, rfl⟩ rfl ?_
    refine x_sub C (L' := []) [] rfl ?_
    exact kj3 _ ((if_neg hc4).symm)
  · refine x_b C (pc' := 14) (L' := [(0, vA (some o))]) (st' := [vI 1]) [(.iconst 1, 1)] ⟨dJ2_isLatin1_13, rfl⟩ rfl ?_
    refine x_goto C 18 dJ2_isLatin1_14 rfl ?_
    refine x_sub C (L' := []) [] rfl ?_
    exact kj3 _ ((if_pos hc4).symm)
def wp_J4_hashCode (p0 : Int32) (p1 : Option Nat) (p2 : Int32) (p3 : Int32) (h : AH) (Q : Int32 → AH → Prop) : Prop :=
  xlp (σ := Int32 × Int32) (fun s1 T2 k1 =>
  (((p2 + p3) ≤ s1.2 →
  Q s1.1 T2) ∧ (¬ (p2 + p3) ≤ s1.2 →
  False))) (p0, p2) h
theorem hd_J4_hashCode : yJ4_hashCode.cls ≠ "java/lang/invoke/MethodHandle" ∧ yJ4_hashCode.cls ≠ "java/lang/invoke/VarHandle" ∧ (parseMethodDescriptor yJ4_hashCode.desc).map (fun d => d.parameters.length) = some 4 := by decide +kernel
theorem ok_J4_hashCode {l : Launch} {D : va_G} {s0 : S0} (hG : G0 D s0) {p0 : Int32} {p1 : Option Nat} {p2 : Int32} {p3 : Int32} {h : AH} {Q : Int32 → AH → Prop} (hw : wp_J4_hashCode p0 p1 p2 p3 h Q) : OKm l D s0 yJ4_hashCode cJ4_hashCode 6 (some .int) 0 0 [vI p0, vA p1, vI p2, vI p3] h (QI Q) := by
  refine x_metF hG (by decide +kernel) (own := RJ4) (mn := "hashCode") rfl rfl (L0 := [(0, vI p0), (1, vA p1), (2, vI p2), (3, vI p3)]) rfl rfl ?_
  intro K C
  unfold wp_J4_hashCode at hw
  refine x_b C (pc' := 8) (L' := [(5, vI p2), (4, vI (p2 + p3)), (0, vI p0), (1, vA p1), (2, vI p2), (3, vI p3)]) (st' := []) [(.iload_n 2, 1), (.iload_n 3, 1), (.iadd, 1), (.istore 4, 2), (.iload_n 2, 1), (.istore 5, 2)] ⟨dJ4_hashCode_0, dJ4_hashCode_1, dJ4_hashCode_2, dJ4_hashCode_3, dJ4_hashCode_5, dJ4_hashCode_6, rfl⟩ rfl ?_
  obtain ⟨I1, ⟨n1, hI1⟩, hB1⟩ := xlp.out hw
  refine x_sub C (L' := [(0, vI p0), (1, vA p1), (4, vI (p2 + p3)), (5, vI p2)]) [2, 3, 1, 0] rfl ?_
  have key1 : ∀ (n : Nat) (s1 : Int32 × Int32) (T2 : AH), I1 n s1 T2 → K 8 [(0, vI (s1.1)), (1, vA p1), (4, vI (p2 + p3)), (5, vI (s1.2))] [] T2 := by
    intro n
    induction n using Nat.strongRecOn with
    | ind n ih1 =>
      intro s1 T2 hI
      replace hw := hB1 n s1 T2 hI
      refine x_b C (pc' := 12) (L' := [(0, vI (s1.1)), (1, vA p1), (4, vI (p2 + p3)), (5, vI (s1.2))]) (st' := [vI (p2 + p3), vI (s1.2)]) [(.iload 5, 2), (.iload 4, 2)] ⟨dJ4_hashCode_8, dJ4_hashCode_10, rfl⟩ rfl ?_
      refine x_icmp_ge C 31 15 dJ4_hashCode_12 rfl rfl (fun hc3 => ?_) (fun hc3 => ?_)
      · replace hw := hw.1 hc3
        refine x_b C (pc' := 32) (L' := [(0, vI (s1.1)), (1, vA p1), (4, vI (p2 + p3)), (5, vI (s1.2))]) (st' := [vI (s1.1)]) [(.iload_n 0, 1)] ⟨dJ4_hashCode_31, rfl⟩ rfl ?_
        exact x_iret C dJ4_hashCode_32 ⟨_, rfl, hw⟩
      · replace hw := hw.2 hc3
        refine x_b C (pc' := 22) (L' := [(0, vI (s1.1)), (1, vA p1), (4, vI (p2 + p3)), (5, vI (s1.2))]) (st' := [vI (s1.2), vA p1, vI (31 * s1.1)]) [(.bipush 31, 2), (.iload_n 0, 1), (.imul, 1), (.aload_n 1, 1), (.iload 5, 2)] ⟨dJ4_hashCode_15, dJ4_hashCode_17, dJ4_hashCode_18, dJ4_hashCode_19, dJ4_hashCode_20, rfl⟩ rfl ?_
        exact hw.elim
  exact key1 n1 (p0, p2) h hI1
def wp_J4_hashCode_2 (p0 : Int32) (p1 : Option Nat) (p2 : Int32) (p3 : Int32) (h : AH) (Q : Int32 → AH → Prop) : Prop :=
  xlp (σ := Int32 × Int32) (fun s1 T2 k1 =>
  (((p2 + p3) ≤ s1.2 →
  Q s1.1 T2) ∧ (¬ (p2 + p3) ≤ s1.2 →
  ix T2 p1 41 s1.2 ∧
  k1 (((31 * s1.1) + (T2.ai (adr p1) (ni s1.2))), (s1.2 + 1)) T2))) (p0, p2) h
theorem hd_J4_hashCode_2 : yJ4_hashCode_2.cls ≠ "java/lang/invoke/MethodHandle" ∧ yJ4_hashCode_2.cls ≠ "java/lang/invoke/VarHandle" ∧ (parseMethodDescriptor yJ4_hashCode_2.desc).map (fun d => d.parameters.length) = some 4 := by decide +kernel
theorem ok_J4_hashCode_2 {l : Launch} {D : va_G} {s0 : S0} (hG : G0 D s0) {p0 : Int32} {p1 : Option Nat} {p2 : Int32} {p3 : Int32} {h : AH} {Q : Int32 → AH → Prop} (hw : wp_J4_hashCode_2 p0 p1 p2 p3 h Q) : OKm l D s0 yJ4_hashCode_2 cJ4_hashCode_2 6 (some .int) 0 0 [vI p0, vA p1, vI p2, vI p3] h (QI Q) := by
  refine x_metF hG (by decide +kernel) (own := RJ4) (mn := "hashCode") rfl rfl (L0 := [(0, vI p0), (1, vA p1), (2, vI p2), (3, vI p3)]) rfl rfl ?_
  intro K C
  unfold wp_J4_hashCode_2 at hw
  refine x_b C (pc' := 8) (L' := [(5, vI p2), (4, vI (p2 + p3)), (0, vI p0), (1, vA p1), (2, vI p2), (3, vI p3)]) (st' := []) [(.iload_n 2, 1), (.iload_n 3, 1), (.iadd, 1), (.istore 4, 2), (.iload_n 2, 1), (.istore 5, 2)] ⟨dJ4_hashCode_2_0, dJ4_hashCode_2_1, dJ4_hashCode_2_2, dJ4_hashCode_2_3, dJ4_hashCode_2_5, dJ4_hashCode_2_6, rfl⟩ rfl ?_
  obtain ⟨I1, ⟨n1, hI1⟩, hB1⟩ := xlp.out hw
  refine x_sub C (L' := [(0, vI p0), (1, vA p1), (4, vI (p2 + p3)), (5, vI p2)]) [2, 3, 1, 0] rfl ?_
  have key1 : ∀ (n : Nat) (s1 : Int32 × Int32) (T2 : AH), I1 n s1 T2 → K 8 [(0, vI (s1.1)), (1, vA p1), (4, vI (p2 + p3)), (5, vI (s1.2))] [] T2 := by
    intro n
    induction n using Nat.strongRecOn with
    | ind n ih1 =>
      intro s1 T2 hI
      replace hw := hB1 n s1 T2 hI
      refine x_b C (pc' := 12) (L' := [(0, vI (s1.1)), (1, vA p1), (4, vI (p2 + p3)), (5, vI (s1.2))]) (st' := [vI (p2 + p3), vI (s1.2)]) [(.iload 5, 2), (.iload 4, 2)] ⟨dJ4_hashCode_2_8, dJ4_hashCode_2_10, rfl⟩ rfl ?_
      refine x_icmp_ge C 31 15 dJ4_hashCode_2_12 rfl rfl (fun hc3 => ?_) (fun hc3 => ?_)
      · replace hw := hw.1 hc3
        refine x_b C (pc' := 32) (L' := [(0, vI (s1.1)), (1, vA p1), (4, vI (p2 + p3)), (5, vI (s1.2))]) (st' := [vI (s1.1)]) [(.iload_n 0, 1)] ⟨dJ4_hashCode_2_31, rfl⟩ rfl ?_
        exact x_iret C dJ4_hashCode_2_32 ⟨_, rfl, hw⟩
      · replace hw := hw.2 hc3
        refine x_b C (pc' := 22) (L' := [(0, vI (s1.1)), (1, vA p1), (4, vI (p2 + p3)), (5, vI (s1.2))]) (st' := [vI (s1.2), vA p1, vI (31 * s1.1)]) [(.bipush 31, 2), (.iload_n 0, 1), (.imul, 1), (.aload_n 1, 1), (.iload 5, 2)] ⟨dJ4_hashCode_2_15, dJ4_hashCode_2_17, dJ4_hashCode_2_18, dJ4_hashCode_2_19, dJ4_hashCode_2_20, rfl⟩ rfl ?_
        refine x_bald C 23 dJ4_hashCode_2_22 rfl hw.1 ?_
        replace hw := hw.2
        refine x_b C (pc' := 28) (L' := [(5, vI (s1.2 + 1)), (0, vI ((31 * s1.1) + (T2.ai (adr p1) (ni s1.2)))), (1, vA p1), (4, vI (p2 + p3))]) (st' := []) [(.iadd, 1), (.istore_n 0, 1), (.iinc 5 1, 3)] ⟨dJ4_hashCode_2_23, dJ4_hashCode_2_24, dJ4_hashCode_2_25, rfl⟩ rfl ?_
        refine x_goto C 8 dJ4_hashCode_2_28 rfl ?_
        refine x_sub C (L' := [(0, vI ((31 * s1.1) + (T2.ai (adr p1) (ni s1.2)))), (1, vA p1), (4, vI (p2 + p3)), (5, vI (s1.2 + 1))]) [1, 2, 3, 0] rfl ?_
        obtain ⟨m9, hm9, hw⟩ := hw
        exact ih1 m9 hm9 (((31 * s1.1) + (T2.ai (adr p1) (ni s1.2))), (s1.2 + 1)) T2 hw
  exact key1 n1 (p0, p2) h hI1
def wp_J4_hashCode_3 (p0 : Int32) (p1 : Option Nat) (p2 : Int32) (p3 : Int32) (h : AH) (Q : Int32 → AH → Prop) : Prop :=
  xlp (σ := Int32 × Int32) (fun s1 T2 k1 =>
  (((p2 + p3) ≤ s1.2 →
  Q s1.1 T2) ∧ (¬ (p2 + p3) ≤ s1.2 →
  False))) (p0, p2) h
theorem hd_J4_hashCode_3 : yJ4_hashCode_3.cls ≠ "java/lang/invoke/MethodHandle" ∧ yJ4_hashCode_3.cls ≠ "java/lang/invoke/VarHandle" ∧ (parseMethodDescriptor yJ4_hashCode_3.desc).map (fun d => d.parameters.length) = some 4 := by decide +kernel
theorem ok_J4_hashCode_3 {l : Launch} {D : va_G} {s0 : S0} (hG : G0 D s0) {p0 : Int32} {p1 : Option Nat} {p2 : Int32} {p3 : Int32} {h : AH} {Q : Int32 → AH → Prop} (hw : wp_J4_hashCode_3 p0 p1 p2 p3 h Q) : OKm l D s0 yJ4_hashCode_3 cJ4_hashCode_3 6 (some .int) 0 0 [vI p0, vA p1, vI p2, vI p3] h (QI Q) := by
  refine x_metF hG (by decide +kernel) (own := RJ4) (mn := "hashCode") rfl rfl (L0 := [(0, vI p0), (1, vA p1), (2, vI p2), (3, vI p3)]) rfl rfl ?_
  intro K C
  unfold wp_J4_hashCode_3 at hw
  refine x_b C (pc' := 8) (L' := [(5, vI p2), (4, vI (p2 + p3)), (0, vI p0), (1, vA p1), (2, vI p2), (3, vI p3)]) (st' := []) [(.iload_n 2, 1), (.iload_n 3, 1), (.iadd, 1), (.istore 4, 2), (.iload_n 2, 1), (.istore 5, 2)] ⟨dJ4_hashCode_3_0, dJ4_hashCode_3_1, dJ4_hashCode_3_2, dJ4_hashCode_3_3, dJ4_hashCode_3_5, dJ4_hashCode_3_6, rfl⟩ rfl ?_
  obtain ⟨I1, ⟨n1, hI1⟩, hB1⟩ := xlp.out hw
  refine x_sub C (L' := [(0, vI p0), (1, vA p1), (4, vI (p2 + p3)), (5, vI p2)]) [2, 3, 1, 0] rfl ?_
  have key1 : ∀ (n : Nat) (s1 : Int32 × Int32) (T2 : AH), I1 n s1 T2 → K 8 [(0, vI (s1.1)), (1, vA p1), (4, vI (p2 + p3)), (5, vI (s1.2))] [] T2 := by
    intro n
    induction n using Nat.strongRecOn with
    | ind n ih1 =>
      intro s1 T2 hI
      replace hw := hB1 n s1 T2 hI
      refine x_b C (pc' := 12) (L' := [(0, vI (s1.1)), (1, vA p1), (4, vI (p2 + p3)), (5, vI (s1.2))]) (st' := [vI (p2 + p3), vI (s1.2)]) [(.iload 5, 2), (.iload 4, 2)] ⟨dJ4_hashCode_3_8, dJ4_hashCode_3_10, rfl⟩ rfl ?_
      refine x_icmp_ge C 31 15 dJ4_hashCode_3_12 rfl rfl (fun hc3 => ?_) (fun hc3 => ?_)
      · replace hw := hw.1 hc3
        refine x_b C (pc' := 32) (L' := [(0, vI (s1.1)), (1, vA p1), (4, vI (p2 + p3)), (5, vI (s1.2))]) (st' := [vI (s1.1)]) [(.iload_n 0, 1)] ⟨dJ4_hashCode_3_31, rfl⟩ rfl ?_
        exact x_iret C dJ4_hashCode_3_32 ⟨_, rfl, hw⟩
      · replace hw := hw.2 hc3
        refine x_b C (pc' := 22) (L' := [(0, vI (s1.1)), (1, vA p1), (4, vI (p2 + p3)), (5, vI (s1.2))]) (st' := [vI (s1.2), vA p1, vI (31 * s1.1)]) [(.bipush 31, 2), (.iload_n 0, 1), (.imul, 1), (.aload_n 1, 1), (.iload 5, 2)] ⟨dJ4_hashCode_3_15, dJ4_hashCode_3_17, dJ4_hashCode_3_18, dJ4_hashCode_3_19, dJ4_hashCode_3_20, rfl⟩ rfl ?_
        exact hw.elim
  exact key1 n1 (p0, p2) h hI1
def wp_J4_hashCode_4 (p0 : Int32) (p1 : Option Nat) (p2 : Int32) (p3 : Int32) (h : AH) (Q : Int32 → AH → Prop) : Prop :=
  xlp (σ := Int32 × Int32) (fun s1 T2 k1 =>
  (((p2 + p3) ≤ s1.2 →
  Q s1.1 T2) ∧ (¬ (p2 + p3) ≤ s1.2 →
  ix T2 p1 40 s1.2 ∧
  k1 (((31 * s1.1) + (T2.ai (adr p1) (ni s1.2))), (s1.2 + 1)) T2))) (p0, p2) h
theorem hd_J4_hashCode_4 : yJ4_hashCode_4.cls ≠ "java/lang/invoke/MethodHandle" ∧ yJ4_hashCode_4.cls ≠ "java/lang/invoke/VarHandle" ∧ (parseMethodDescriptor yJ4_hashCode_4.desc).map (fun d => d.parameters.length) = some 4 := by decide +kernel
theorem ok_J4_hashCode_4 {l : Launch} {D : va_G} {s0 : S0} (hG : G0 D s0) {p0 : Int32} {p1 : Option Nat} {p2 : Int32} {p3 : Int32} {h : AH} {Q : Int32 → AH → Prop} (hw : wp_J4_hashCode_4 p0 p1 p2 p3 h Q) : OKm l D s0 yJ4_hashCode_4 cJ4_hashCode_4 6 (some .int) 0 0 [vI p0, vA p1, vI p2, vI p3] h (QI Q) := by
  refine x_metF hG (by decide +kernel) (own := RJ4) (mn := "hashCode") rfl rfl (L0 := [(0, vI p0), (1, vA p1), (2, vI p2), (3, vI p3)]) rfl rfl ?_
  intro K C
  unfold wp_J4_hashCode_4 at hw
  refine x_b C (pc' := 8) (L' := [(5, vI p2), (4, vI (p2 + p3)), (0, vI p0), (1, vA p1), (2, vI p2), (3, vI p3)]) (st' := []) [(.iload_n 2, 1), (.iload_n 3, 1), (.iadd, 1), (.istore 4, 2), (.iload_n 2, 1), (.istore 5, 2)] ⟨dJ4_hashCode_4_0, dJ4_hashCode_4_1, dJ4_hashCode_4_2, dJ4_hashCode_4_3, dJ4_hashCode_4_5, dJ4_hashCode_4_6, rfl⟩ rfl ?_
  obtain ⟨I1, ⟨n1, hI1⟩, hB1⟩ := xlp.out hw
  refine x_sub C (L' := [(0, vI p0), (1, vA p1), (4, vI (p2 + p3)), (5, vI p2)]) [2, 3, 1, 0] rfl ?_
  have key1 : ∀ (n : Nat) (s1 : Int32 × Int32) (T2 : AH), I1 n s1 T2 → K 8 [(0, vI (s1.1)), (1, vA p1), (4, vI (p2 + p3)), (5, vI (s1.2))] [] T2 := by
    intro n
    induction n using Nat.strongRecOn with
    | ind n ih1 =>
      intro s1 T2 hI
      replace hw := hB1 n s1 T2 hI
      refine x_b C (pc' := 12) (L' := [(0, vI (s1.1)), (1, vA p1), (4, vI (p2 + p3)), (5, vI (s1.2))]) (st' := [vI (p2 + p3), vI (s1.2)]) [(.iload 5, 2), (.iload 4, 2)] ⟨dJ4_hashCode_4_8, dJ4_hashCode_4_10, rfl⟩ rfl ?_
      refine x_icmp_ge C 31 15 dJ4_hashCode_4_12 rfl rfl (fun hc3 => ?_) (fun hc3 => ?_)
      · replace hw := hw.1 hc3
        refine x_b C (pc' := 32) (L' := [(0, vI (s1.1)), (1, vA p1), (4, vI (p2 + p3)), (5, vI (s1.2))]) (st' := [vI (s1.1)]) [(.iload_n 0, 1)] ⟨dJ4_hashCode_4_31, rfl⟩ rfl ?_
        exact x_iret C dJ4_hashCode_4_32 ⟨_, rfl, hw⟩
      · replace hw := hw.2 hc3
        refine x_b C (pc' := 22) (L' := [(0, vI (s1.1)), (1, vA p1), (4, vI (p2 + p3)), (5, vI (s1.2))]) (st' := [vI (s1.2), vA p1, vI (31 * s1.1)]) [(.bipush 31, 2), (.iload_n 0, 1), (.imul, 1), (.aload_n 1, 1), (.iload 5, 2)] ⟨dJ4_hashCode_4_15, dJ4_hashCode_4_17, dJ4_hashCode_4_18, dJ4_hashCode_4_19, dJ4_hashCode_4_20, rfl⟩ rfl ?_
        refine x_iald C 23 dJ4_hashCode_4_22 rfl hw.1 ?_
        replace hw := hw.2
        refine x_b C (pc' := 28) (L' := [(5, vI (s1.2 + 1)), (0, vI ((31 * s1.1) + (T2.ai (adr p1) (ni s1.2)))), (1, vA p1), (4, vI (p2 + p3))]) (st' := []) [(.iadd, 1), (.istore_n 0, 1), (.iinc 5 1, 3)] ⟨dJ4_hashCode_4_23, dJ4_hashCode_4_24, dJ4_hashCode_4_25, rfl⟩ rfl ?_
        refine x_goto C 8 dJ4_hashCode_4_28 rfl ?_
        refine x_sub C (L' := [(0, vI ((31 * s1.1) + (T2.ai (adr p1) (ni s1.2)))), (1, vA p1), (4, vI (p2 + p3)), (5, vI (s1.2 + 1))]) [1, 2, 3, 0] rfl ?_
        obtain ⟨m9, hm9, hw⟩ := hw
        exact ih1 m9 hm9 (((31 * s1.1) + (T2.ai (adr p1) (ni s1.2))), (s1.2 + 1)) T2 hw
  exact key1 n1 (p0, p2) h hI1
def wp_J4_signedHashCode (p0 : Int32) (p1 : Option Nat) (p2 : Int32) (p3 : Int32) (h : AH) (Q : Int32 → AH → Prop) : Prop :=
  xlp (σ := Int32 × Int32) (fun s1 T2 k1 =>
  (((p2 + p3) ≤ s1.2 →
  Q s1.1 T2) ∧ (¬ (p2 + p3) ≤ s1.2 →
  ix T2 p1 41 s1.2 ∧
  k1 (((31 * s1.1) + ((T2.ai (adr p1) (ni s1.2)) &&& 255)), (s1.2 + 1)) T2))) (p0, p2) h
theorem hd_J4_signedHashCode : yJ4_signedHashCode.cls ≠ "java/lang/invoke/MethodHandle" ∧ yJ4_signedHashCode.cls ≠ "java/lang/invoke/VarHandle" ∧ (parseMethodDescriptor yJ4_signedHashCode.desc).map (fun d => d.parameters.length) = some 4 := by decide +kernel
theorem ok_J4_signedHashCode {l : Launch} {D : va_G} {s0 : S0} (hG : G0 D s0) {p0 : Int32} {p1 : Option Nat} {p2 : Int32} {p3 : Int32} {h : AH} {Q : Int32 → AH → Prop} (hw : wp_J4_signedHashCode p0 p1 p2 p3 h Q) : OKm l D s0 yJ4_signedHashCode cJ4_signedHashCode 6 (some .int) 0 0 [vI p0, vA p1, vI p2, vI p3] h (QI Q) := by
  refine x_metF hG (by decide +kernel) (own := RJ4) (mn := "signedHashCode") rfl rfl (L0 := [(0, vI p0), (1, vA p1), (2, vI p2), (3, vI p3)]) rfl rfl ?_
  intro K C
  unfold wp_J4_signedHashCode at hw
  refine x_b C (pc' := 8) (L' := [(5, vI p2), (4, vI (p2 + p3)), (0, vI p0), (1, vA p1), (2, vI p2), (3, vI p3)]) (st' := []) [(.iload_n 2, 1), (.iload_n 3, 1), (.iadd, 1), (.istore 4, 2), (.iload_n 2, 1), (.istore 5, 2)] ⟨dJ4_signedHashCode_0, dJ4_signedHashCode_1, dJ4_signedHashCode_2, dJ4_signedHashCode_3, dJ4_signedHashCode_5, dJ4_signedHashCode_6, rfl⟩ rfl ?_
  obtain ⟨I1, ⟨n1, hI1⟩, hB1⟩ := xlp.out hw
  refine x_sub C (L' := [(0, vI p0), (1, vA p1), (4, vI (p2 + p3)), (5, vI p2)]) [2, 3, 1, 0] rfl ?_
  have key1 : ∀ (n : Nat) (s1 : Int32 × Int32) (T2 : AH), I1 n s1 T2 → K 8 [(0, vI (s1.1)), (1, vA p1), (4, vI (p2 + p3)), (5, vI (s1.2))] [] T2 := by
    intro n
    induction n using Nat.strongRecOn with
    | ind n ih1 =>
      intro s1 T2 hI
      replace hw := hB1 n s1 T2 hI
      refine x_b C (pc' := 12) (L' := [(0, vI (s1.1)), (1, vA p1), (4, vI (p2 + p3)), (5, vI (s1.2))]) (st' := [vI (p2 + p3), vI (s1.2)]) [(.iload 5, 2), (.iload 4, 2)] ⟨dJ4_signedHashCode_8, dJ4_signedHashCode_10, rfl⟩ rfl ?_
      refine x_icmp_ge C 35 15 dJ4_signedHashCode_12 rfl rfl (fun hc3 => ?_) (fun hc3 => ?_)
      · replace hw := hw.1 hc3
        refine x_b C (pc' := 36) (L' := [(0, vI (s1.1)), (1, vA p1), (4, vI (p2 + p3)), (5, vI (s1.2))]) (st' := [vI (s1.1)]) [(.iload_n 0, 1)] ⟨dJ4_signedHashCode_35, rfl⟩ rfl ?_
        exact x_iret C dJ4_signedHashCode_36 ⟨_, rfl, hw⟩
      · replace hw := hw.2 hc3
        refine x_b C (pc' := 22) (L' := [(0, vI (s1.1)), (1, vA p1), (4, vI (p2 + p3)), (5, vI (s1.2))]) (st' := [vI (s1.2), vA p1, vI (31 * s1.1)]) [(.bipush 31, 2), (.iload_n 0, 1), (.imul, 1), (.aload_n 1, 1), (.iload 5, 2)] ⟨dJ4_signedHashCode_15, dJ4_signedHashCode_17, dJ4_signedHashCode_18, dJ4_signedHashCode_19, dJ4_signedHashCode_20, rfl⟩ rfl ?_
        refine x_bald C 23 dJ4_signedHashCode_22 rfl hw.1 ?_
        replace hw := hw.2
        refine x_b C (pc' := 32) (L' := [(5, vI (s1.2 + 1)), (0, vI ((31 * s1.1) + ((T2.ai (adr p1) (ni s1.2)) &&& 255))), (1, vA p1), (4, vI (p2 + p3))]) (st' := []) [(.sipush 255, 3), (.iand, 1), (.iadd, 1), (.istore_n 0, 1), (.iinc 5 1, 3)] ⟨dJ4_signedHashCode_23, dJ4_signedHashCode_26, dJ4_signedHashCode_27, dJ4_signedHashCode_28, dJ4_signedHashCode_29, rfl⟩ rfl ?_
        refine x_goto C 8 dJ4_signedHashCode_32 rfl ?_
        refine x_sub C (L' := [(0, vI ((31 * s1.1) + ((T2.ai (adr p1) (ni s1.2)) &&& 255))), (1, vA p1), (4, vI (p2 + p3)), (5, vI (s1.2 + 1))]) [1, 2, 3, 0] rfl ?_
        obtain ⟨m9, hm9, hw⟩ := hw
        exact ih1 m9 hm9 (((31 * s1.1) + ((T2.ai (adr p1) (ni s1.2)) &&& 255)), (s1.2 + 1)) T2 hw
  exact key1 n1 (p0, p2) h hI1
def wp_J4_utf16hashCode (p0 : Int32) (p1 : Option Nat) (p2 : Int32) (p3 : Int32) (h : AH) (Q : Int32 → AH → Prop) : Prop :=
  xlp (σ := Int32 × Int32) (fun s1 T2 k1 =>
  (((p2 + p3) ≤ s1.2 →
  Q s1.1 T2) ∧ (¬ (p2 + p3) ≤ s1.2 →
  False))) (p0, p2) h
theorem hd_J4_utf16hashCode : yJ4_utf16hashCode.cls ≠ "java/lang/invoke/MethodHandle" ∧ yJ4_utf16hashCode.cls ≠ "java/lang/invoke/VarHandle" ∧ (parseMethodDescriptor yJ4_utf16hashCode.desc).map (fun d => d.parameters.length) = some 4 := by decide +kernel
theorem ok_J4_utf16hashCode {l : Launch} {D : va_G} {s0 : S0} (hG : G0 D s0) {p0 : Int32} {p1 : Option Nat} {p2 : Int32} {p3 : Int32} {h : AH} {Q : Int32 → AH → Prop} (hw : wp_J4_utf16hashCode p0 p1 p2 p3 h Q) : OKm l D s0 yJ4_utf16hashCode cJ4_utf16hashCode 6 (some .int) 0 0 [vI p0, vA p1, vI p2, vI p3] h (QI Q) := by
  refine x_metF hG (by decide +kernel) (own := RJ4) (mn := "utf16hashCode") rfl rfl (L0 := [(0, vI p0), (1, vA p1), (2, vI p2), (3, vI p3)]) rfl rfl ?_
  intro K C
  unfold wp_J4_utf16hashCode at hw
  refine x_b C (pc' := 8) (L' := [(5, vI p2), (4, vI (p2 + p3)), (0, vI p0), (1, vA p1), (2, vI p2), (3, vI p3)]) (st' := []) [(.iload_n 2, 1), (.iload_n 3, 1), (.iadd, 1), (.istore 4, 2), (.iload_n 2, 1), (.istore 5, 2)] ⟨dJ4_utf16hashCode_0, dJ4_utf16hashCode_1, dJ4_utf16hashCode_2, dJ4_utf16hashCode_3, dJ4_utf16hashCode_5, dJ4_utf16hashCode_6, rfl⟩ rfl ?_
  obtain ⟨I1, ⟨n1, hI1⟩, hB1⟩ := xlp.out hw
  refine x_sub C (L' := [(0, vI p0), (1, vA p1), (4, vI (p2 + p3)), (5, vI p2)]) [2, 3, 1, 0] rfl ?_
  have key1 : ∀ (n : Nat) (s1 : Int32 × Int32) (T2 : AH), I1 n s1 T2 → K 8 [(0, vI (s1.1)), (1, vA p1), (4, vI (p2 + p3)), (5, vI (s1.2))] [] T2 := by
    intro n
    induction n using Nat.strongRecOn with
    | ind n ih1 =>
      intro s1 T2 hI
      replace hw := hB1 n s1 T2 hI
      refine x_b C (pc' := 12) (L' := [(0, vI (s1.1)), (1, vA p1), (4, vI (p2 + p3)), (5, vI (s1.2))]) (st' := [vI (p2 + p3), vI (s1.2)]) [(.iload 5, 2), (.iload 4, 2)] ⟨dJ4_utf16hashCode_8, dJ4_utf16hashCode_10, rfl⟩ rfl ?_
      refine x_icmp_ge C 38 15 dJ4_utf16hashCode_12 rfl rfl (fun hc3 => ?_) (fun hc3 => ?_)
      · replace hw := hw.1 hc3
        refine x_b C (pc' := 39) (L' := [(0, vI (s1.1)), (1, vA p1), (4, vI (p2 + p3)), (5, vI (s1.2))]) (st' := [vI (s1.1)]) [(.iload_n 0, 1)] ⟨dJ4_utf16hashCode_38, rfl⟩ rfl ?_
        exact x_iret C dJ4_utf16hashCode_39 ⟨_, rfl, hw⟩
      · replace hw := hw.2 hc3
        refine x_b C (pc' := 19) (L' := [(0, vI (s1.1)), (1, vA p1), (4, vI (p2 + p3)), (5, vI (s1.2))]) (st' := [vI (31 * s1.1)]) [(.bipush 31, 2), (.iload_n 0, 1), (.imul, 1)] ⟨dJ4_utf16hashCode_15, dJ4_utf16hashCode_17, dJ4_utf16hashCode_18, rfl⟩ rfl ?_
        exact hw.elim
  exact key1 n1 (p0, p2) h hI1
def wp_J4_vectorizedHashCode (p0 : Option Nat) (p1 : Int32) (p2 : Int32) (p3 : Int32) (p4 : Int32) (h : AH) (Q : Int32 → AH → Prop) : Prop :=
  (((p4 = 4) →
  nn h p0 41 ∧
  wp_J4_signedHashCode p3 p0 p1 p2 (h.srm 0 0) fun r3 h4 => ∀ h5, h5 = h4.srm h.rc h.rs →
  Q r3 h5) ∧ (¬ (p4 = 4) →
  (((p4 = 5) →
  nn h p0 41 ∧
  wp_J4_utf16hashCode p3 p0 p1 p2 (h.srm 0 0) fun r9 h10 => ∀ h11, h11 = h10.srm h.rc h.rs →
  Q r9 h11) ∧ (¬ (p4 = 5) →
  (((p4 = 6 ∨ p4 = 7) →
  False) ∧ (¬ (p4 = 6 ∨ p4 = 7) →
  (((p4 = 8) →
  nn h p0 41 ∧
  wp_J4_hashCode_2 p3 p0 p1 p2 (h.srm 0 0) fun r17 h18 => ∀ h19, h19 = h18.srm h.rc h.rs →
  Q r17 h19) ∧ (¬ (p4 = 8) →
  (((p4 = 9) →
  False) ∧ (¬ (p4 = 9) →
  (((p4 = 10) →
  nn h p0 40 ∧
  wp_J4_hashCode_4 p3 p0 p1 p2 (h.srm 0 0) fun r25 h26 => ∀ h27, h27 = h26.srm h.rc h.rs →
  Q r25 h27) ∧ (¬ (p4 = 10) →
  False))))))))))))
theorem hd_J4_vectorizedHashCode : yJ4_vectorizedHashCode.cls ≠ "java/lang/invoke/MethodHandle" ∧ yJ4_vectorizedHashCode.cls ≠ "java/lang/invoke/VarHandle" ∧ (parseMethodDescriptor yJ4_vectorizedHashCode.desc).map (fun d => d.parameters.length) = some 5 := by decide +kernel
theorem ok_J4_vectorizedHashCode {l : Launch} {D : va_G} {s0 : S0} (hG : G0 D s0) {p0 : Option Nat} {p1 : Int32} {p2 : Int32} {p3 : Int32} {p4 : Int32} {h : AH} {Q : Int32 → AH → Prop} (hw : wp_J4_vectorizedHashCode p0 p1 p2 p3 p4 h Q) : OKm l D s0 yJ4_vectorizedHashCode cJ4_vectorizedHashCode 5 (some .int) 1 60 [vA p0, vI p1, vI p2, vI p3, vI p4] h (QI Q) := by
  refine x_metF hG (by decide +kernel) (own := RJ4) (mn := "vectorizedHashCode") rfl rfl (L0 := [(0, vA p0), (1, vI p1), (2, vI p2), (3, vI p3), (4, vI p4)]) rfl rfl ?_
  intro K C
  unfold wp_J4_vectorizedHashCode at hw
  refine x_b C (pc' := 2) (L' := [(0, vA p0), (1, vI p1), (2, vI p2), (3, vI p3), (4, vI p4)]) (st' := [vI p4]) [(.iload 4, 2)] ⟨dJ4_vectorizedHashCode_0, rfl⟩ rfl ?_
  have ks1 : (p4 = 4) → K 44 [(0, vA p0), (1, vI p1), (2, vI p2), (3, vI p3), (4, vI p4)] [] h := by
    intro hcc
    replace hw := hw.1 hcc
    refine x_b C (pc' := 46) (L' := [(0, vA p0), (1, vI p1), (2, vI p2), (3, vI p3), (4, vI p4)]) (st' := [vA p0, vI p3]) [(.iload_n 3, 1), (.aload_n 0, 1)] ⟨dJ4_vectorizedHashCode_44, dJ4_vectorizedHashCode_45, rfl⟩ rfl ?_
    have hn2 := hw.1
    replace hw := hw.2
    refine x_castA C 41 49 dJ4_vectorizedHashCode_46 rfl rfl (fun _ _ q => q) q803 hn2 ?_
    refine x_b C (pc' := 51) (L' := [(0, vA p0), (1, vI p1), (2, vI p2), (3, vI p3), (4, vI p4)]) (st' := [vI p2, vI p1, vA p0, vI p3]) [(.iload_n 1, 1), (.iload_n 2, 1)] ⟨dJ4_vectorizedHashCode_49, dJ4_vectorizedHashCode_50, rfl⟩ rfl ?_
    refine x_cS C 54 (mc2 := 0) (ms2 := 0) [vI p3, vA p0, vI p1, vI p2] [] dJ4_vectorizedHashCode_51 rfl (ok_J4_signedHashCode hG hw) ⟨Nat.zero_le _, Nat.zero_le _⟩ q804 q805 q165 q806 hd_J4_signedHashCode ⟨rfl, rfl, rfl⟩ (fun v9 h4 h5 hq9 eh5 => ?_)
    obtain ⟨r3, rfl, hw⟩ := hq9
    replace hw := hw h5 eh5
    refine x_goto C 157 dJ4_vectorizedHashCode_54 rfl ?_
    exact x_iret C dJ4_vectorizedHashCode_157 ⟨_, rfl, hw⟩
  by_cases hs6 : (p4 = 4)
  · refine x_tabIn C (v := 4) 44 dJ4_vectorizedHashCode_2 hs6 rfl rfl rfl rfl ?_
    exact ks1 hs6
  replace hw := hw.2 hs6
  have ks7 : (p4 = 5) → K 57 [(0, vA p0), (1, vI p1), (2, vI p2), (3, vI p3), (4, vI p4)] [] h := by
    intro hcc
    replace hw := hw.1 hcc
    refine x_b C (pc' := 58) (L' := [(0, vA p0), (1, vI p1), (2, vI p2), (3, vI p3), (4, vI p4)]) (st' := [vA p0]) [(.aload_n 0, 1)] ⟨dJ4_vectorizedHashCode_57, rfl⟩ rfl ?_
    have hn8 := hw.1
    replace hw := hw.2
    refine x_instA C 41 61 dJ4_vectorizedHashCode_58 rfl rfl (fun _ _ q => q) q803 hn8 ?_
    refine x_if_eq C 77 64 dJ4_vectorizedHashCode_61 rfl rfl (fun hc => absurd hc (by decide)) (fun _ => ?_)
    refine x_b C (pc' := 66) (L' := [(0, vA p0), (1, vI p1), (2, vI p2), (3, vI p3), (4, vI p4)]) (st' := [vA p0, vI p3]) [(.iload_n 3, 1), (.aload_n 0, 1)] ⟨dJ4_vectorizedHashCode_64, dJ4_vectorizedHashCode_65, rfl⟩ rfl ?_
    refine x_castA C 41 69 dJ4_vectorizedHashCode_66 rfl rfl (fun _ _ q => q) q803 hn8 ?_
    refine x_b C (pc' := 71) (L' := [(0, vA p0), (1, vI p1), (2, vI p2), (3, vI p3), (4, vI p4)]) (st' := [vI p2, vI p1, vA p0, vI p3]) [(.iload_n 1, 1), (.iload_n 2, 1)] ⟨dJ4_vectorizedHashCode_69, dJ4_vectorizedHashCode_70, rfl⟩ rfl ?_
    refine x_cS C 74 (mc2 := 0) (ms2 := 0) [vI p3, vA p0, vI p1, vI p2] [] dJ4_vectorizedHashCode_71 rfl (ok_J4_utf16hashCode hG hw) ⟨Nat.zero_le _, Nat.zero_le _⟩ q807 q808 q165 q809 hd_J4_utf16hashCode ⟨rfl, rfl, rfl⟩ (fun v9 h10 h11 hq9 eh11 => ?_)
    obtain ⟨r9, rfl, hw⟩ := hq9
    replace hw := hw h11 eh11
    refine x_goto C 157 dJ4_vectorizedHashCode_74 rfl ?_
    exact x_iret C dJ4_vectorizedHashCode_157 ⟨_, rfl, hw⟩
  by_cases hs12 : (p4 = 5)
  · refine x_tabIn C (v := 5) 57 dJ4_vectorizedHashCode_2 hs12 rfl rfl rfl rfl ?_
    exact ks7 hs12
  replace hw := hw.2 hs12
  have ks13 : (p4 = 6 ∨ p4 = 7) → K 129 [(0, vA p0), (1, vI p1), (2, vI p2), (3, vI p3), (4, vI p4)] [] h := by
    intro hcc
    replace hw := hw.1 hcc
    exact hw.elim
  by_cases hs14 : (p4 = 6 ∨ p4 = 7)
  · rcases hs14 with hs14 | hs14
    · refine x_tabIn C (v := 6) 129 dJ4_vectorizedHashCode_2 hs14 rfl rfl rfl rfl ?_
      exact ks13 (Or.inl hs14)
    · refine x_tabIn C (v := 7) 129 dJ4_vectorizedHashCode_2 hs14 rfl rfl rfl rfl ?_
      exact ks13 (Or.inr hs14)
  replace hw := hw.2 hs14
  have ks15 : (p4 = 8) → K 90 [(0, vA p0), (1, vI p1), (2, vI p2), (3, vI p3), (4, vI p4)] [] h := by
    intro hcc
    replace hw := hw.1 hcc
    refine x_b C (pc' := 92) (L' := [(0, vA p0), (1, vI p1), (2, vI p2), (3, vI p3), (4, vI p4)]) (st' := [vA p0, vI p3]) [(.iload_n 3, 1), (.aload_n 0, 1)] ⟨dJ4_vectorizedHashCode_90, dJ4_vectorizedHashCode_91, rfl⟩ rfl ?_
    have hn16 := hw.1
    replace hw := hw.2
    refine x_castA C 41 95 dJ4_vectorizedHashCode_92 rfl rfl (fun _ _ q => q) q803 hn16 ?_
    refine x_b C (pc' := 97) (L' := [(0, vA p0), (1, vI p1), (2, vI p2), (3, vI p3), (4, vI p4)]) (st' := [vI p2, vI p1, vA p0, vI p3]) [(.iload_n 1, 1), (.iload_n 2, 1)] ⟨dJ4_vectorizedHashCode_95, dJ4_vectorizedHashCode_96, rfl⟩ rfl ?_
    refine x_cS C 100 (mc2 := 0) (ms2 := 0) [vI p3, vA p0, vI p1, vI p2] [] dJ4_vectorizedHashCode_97 rfl (ok_J4_hashCode_2 hG hw) ⟨Nat.zero_le _, Nat.zero_le _⟩ q827 q828 q165 q829 hd_J4_hashCode_2 ⟨rfl, rfl, rfl⟩ (fun v9 h18 h19 hq9 eh19 => ?_)
    obtain ⟨r17, rfl, hw⟩ := hq9
    replace hw := hw h19 eh19
    refine x_goto C 157 dJ4_vectorizedHashCode_100 rfl ?_
    exact x_iret C dJ4_vectorizedHashCode_157 ⟨_, rfl, hw⟩
  by_cases hs20 : (p4 = 8)
  · refine x_tabIn C (v := 8) 90 dJ4_vectorizedHashCode_2 hs20 rfl rfl rfl rfl ?_
    exact ks15 hs20
  replace hw := hw.2 hs20
  have ks21 : (p4 = 9) → K 103 [(0, vA p0), (1, vI p1), (2, vI p2), (3, vI p3), (4, vI p4)] [] h := by
    intro hcc
    replace hw := hw.1 hcc
    refine x_b C (pc' := 105) (L' := [(0, vA p0), (1, vI p1), (2, vI p2), (3, vI p3), (4, vI p4)]) (st' := [vA p0, vI p3]) [(.iload_n 3, 1), (.aload_n 0, 1)] ⟨dJ4_vectorizedHashCode_103, dJ4_vectorizedHashCode_104, rfl⟩ rfl ?_
    exact hw.elim
  by_cases hs22 : (p4 = 9)
  · refine x_tabIn C (v := 9) 103 dJ4_vectorizedHashCode_2 hs22 rfl rfl rfl rfl ?_
    exact ks21 hs22
  replace hw := hw.2 hs22
  have ks23 : (p4 = 10) → K 116 [(0, vA p0), (1, vI p1), (2, vI p2), (3, vI p3), (4, vI p4)] [] h := by
    intro hcc
    replace hw := hw.1 hcc
    refine x_b C (pc' := 118) (L' := [(0, vA p0), (1, vI p1), (2, vI p2), (3, vI p3), (4, vI p4)]) (st' := [vA p0, vI p3]) [(.iload_n 3, 1), (.aload_n 0, 1)] ⟨dJ4_vectorizedHashCode_116, dJ4_vectorizedHashCode_117, rfl⟩ rfl ?_
    have hn24 := hw.1
    replace hw := hw.2
    refine x_castA C 40 121 dJ4_vectorizedHashCode_118 rfl rfl (fun _ _ q => q) q834 hn24 ?_
    refine x_b C (pc' := 123) (L' := [(0, vA p0), (1, vI p1), (2, vI p2), (3, vI p3), (4, vI p4)]) (st' := [vI p2, vI p1, vA p0, vI p3]) [(.iload_n 1, 1), (.iload_n 2, 1)] ⟨dJ4_vectorizedHashCode_121, dJ4_vectorizedHashCode_122, rfl⟩ rfl ?_
    refine x_cS C 126 (mc2 := 0) (ms2 := 0) [vI p3, vA p0, vI p1, vI p2] [] dJ4_vectorizedHashCode_123 rfl (ok_J4_hashCode_4 hG hw) ⟨Nat.zero_le _, Nat.zero_le _⟩ q835 q836 q165 q837 hd_J4_hashCode_4 ⟨rfl, rfl, rfl⟩ (fun v9 h26 h27 hq9 eh27 => ?_)
    obtain ⟨r25, rfl, hw⟩ := hq9
    replace hw := hw h27 eh27
    refine x_goto C 157 dJ4_vectorizedHashCode_126 rfl ?_
    exact x_iret C dJ4_vectorizedHashCode_157 ⟨_, rfl, hw⟩
  by_cases hs28 : (p4 = 10)
  · refine x_tabIn C (v := 10) 116 dJ4_vectorizedHashCode_2 hs28 rfl rfl rfl rfl ?_
    exact ks23 hs28
  replace hw := hw.2 hs28
  have ht0 : ¬ (p4).toInt = 4 := lv_neT hs6 (by decide)
  have ht1 : ¬ (p4).toInt = 5 := lv_neT hs12 (by decide)
  have ht2 : ¬ (p4).toInt = 6 := lv_neT (fun q => hs14 (Or.inl q)) (by decide)
  have ht3 : ¬ (p4).toInt = 7 := lv_neT (fun q => hs14 (Or.inr q)) (by decide)
  have ht4 : ¬ (p4).toInt = 8 := lv_neT hs20 (by decide)
  have ht5 : ¬ (p4).toInt = 9 := lv_neT hs22 (by decide)
  have ht6 : ¬ (p4).toInt = 10 := lv_neT hs28 (by decide)
  refine x_tabOut C 129 dJ4_vectorizedHashCode_2 (by omega) rfl ?_
  exact hw.elim
def wp_J3_hashCode (p0 : Option Nat) (h : AH) (Q : Int32 → AH → Prop) : Prop :=
  nn h p0 41 ∧
  ((((nI (h.kd (adr p0)).2) = 0) →
  Q 0 h) ∧ (¬ ((nI (h.kd (adr p0)).2) = 0) →
  ((((nI (h.kd (adr p0)).2) = 2) →
  cl h fun mc8 ms9 => wp_J3_getChar p0 0 (h.srm mc8 ms9) fun r5 h6 => ∀ h7, h7 = h6.srm (h.rc - mc8) (h.rs - ms9) →
  Q r5 h7) ∧ (¬ ((nI (h.kd (adr p0)).2) = 2) →
  cl h fun mc15 ms16 => wp_J4_vectorizedHashCode p0 0 (jshr (nI (h.kd (adr p0)).2) 1) 0 5 (h.srm mc15 ms16) fun r12 h13 => ∀ h14, h14 = h13.srm (h.rc - mc15) (h.rs - ms16) →
  Q r12 h14))))
theorem hd_J3_hashCode : yJ3_hashCode.cls ≠ "java/lang/invoke/MethodHandle" ∧ yJ3_hashCode.cls ≠ "java/lang/invoke/VarHandle" ∧ (parseMethodDescriptor yJ3_hashCode.desc).map (fun d => d.parameters.length) = some 1 := by decide +kernel
theorem ok_J3_hashCode {l : Launch} {D : va_G} {s0 : S0} (hG : G0 D s0) {p0 : Option Nat} {h : AH} {Q : Int32 → AH → Prop} (hw : wp_J3_hashCode p0 h Q) : OKm l D s0 yJ3_hashCode cJ3_hashCode 1 (some .int) 2 84 [vA p0] h (QI Q) := by
  refine x_metF hG (by decide +kernel) (own := RJ3) (mn := "hashCode") rfl rfl (L0 := [(0, vA p0)]) rfl rfl ?_
  intro K C
  unfold wp_J3_hashCode at hw
  refine x_b C (pc' := 1) (L' := [(0, vA p0)]) (st' := [vA p0]) [(.aload_n 0, 1)] ⟨dJ3_hashCode_0, rfl⟩ rfl ?_
  have hn1 := hw.1
  replace hw := hw.2
  refine x_alen C 41 2 dJ3_hashCode_1 rfl rfl hn1 ?_
  have ks2 : ((nI (h.kd (adr p0)).2) = 0) → K 28 [(0, vA p0)] [] h := by
    intro hcc
    replace hw := hw.1 hcc
    refine x_b C (pc' := 29) (L' := [(0, vA p0)]) (st' := [vI 0]) [(.iconst 0, 1)] ⟨dJ3_hashCode_28, rfl⟩ rfl ?_
    refine x_goto C 51 dJ3_hashCode_29 rfl ?_
    exact x_iret C dJ3_hashCode_51 ⟨_, rfl, hw⟩
  by_cases hs3 : ((nI (h.kd (adr p0)).2) = 0)
  · refine x_lookIn C (v := 0) 28 dJ3_hashCode_2 hs3 rfl rfl rfl ?_
    exact ks2 hs3
  replace hw := hw.2 hs3
  have ks4 : ((nI (h.kd (adr p0)).2) = 2) → K 32 [(0, vA p0)] [] h := by
    intro hcc
    replace hw := hw.1 hcc
    refine x_b C (pc' := 34) (L' := [(0, vA p0)]) (st' := [vI 0, vA p0]) [(.aload_n 0, 1), (.iconst 0, 1)] ⟨dJ3_hashCode_32, dJ3_hashCode_33, rfl⟩ rfl ?_
    obtain ⟨mc8, ms9, hle10, hw⟩ := hw
    refine x_cS C 37 (mc2 := mc8) (ms2 := ms9) [vA p0, vI 0] [] dJ3_hashCode_34 rfl (ok_J3_getChar hG hw) hle10 q494 q495 q164 q496 hd_J3_getChar ⟨rfl, rfl, rfl⟩ (fun v9 h6 h7 hq9 eh7 => ?_)
    obtain ⟨r5, rfl, hw⟩ := hq9
    replace hw := hw h7 eh7
    refine x_goto C 51 dJ3_hashCode_37 rfl ?_
    exact x_iret C dJ3_hashCode_51 ⟨_, rfl, hw⟩
  by_cases hs11 : ((nI (h.kd (adr p0)).2) = 2)
  · refine x_lookIn C (v := 2) 32 dJ3_hashCode_2 hs11 rfl rfl rfl ?_
    exact ks4 hs11
  replace hw := hw.2 hs11
  refine x_lookOut C 40 dJ3_hashCode_2 rfl (lo_cons (lv_neT hs3 (by decide)) (lo_cons (lv_neT hs11 (by decide)) lo_nil)) rfl ?_
  refine x_b C (pc' := 43) (L' := [(0, vA p0)]) (st' := [vA p0, vI 0, vA p0]) [(.aload_n 0, 1), (.iconst 0, 1), (.aload_n 0, 1)] ⟨dJ3_hashCode_40, dJ3_hashCode_41, dJ3_hashCode_42, rfl⟩ rfl ?_
  refine x_alen C 41 44 dJ3_hashCode_43 rfl rfl hn1 ?_
  refine x_b C (pc' := 48) (L' := [(0, vA p0)]) (st' := [vI 5, vI 0, vI (jshr (nI (h.kd (adr p0)).2) 1), vI 0, vA p0]) [(.iconst 1, 1), (.ishr, 1), (.iconst 0, 1), (.iconst 5, 1)] ⟨dJ3_hashCode_44, dJ3_hashCode_45, dJ3_hashCode_46, dJ3_hashCode_47, rfl⟩ rfl ?_
  obtain ⟨mc15, ms16, hle17, hw⟩ := hw
  refine x_cS C 51 (mc2 := mc15) (ms2 := ms16) [vA p0, vI 0, vI (jshr (nI (h.kd (adr p0)).2) 1), vI 0, vI 5] [] dJ3_hashCode_48 rfl (ok_J4_vectorizedHashCode hG hw) hle17 q841 q801 q165 q802 hd_J4_vectorizedHashCode ⟨rfl, rfl, rfl⟩ (fun v9 h13 h14 hq9 eh14 => ?_)
  obtain ⟨r12, rfl, hw⟩ := hq9
  replace hw := hw h14 eh14
  exact x_iret C dJ3_hashCode_51 ⟨_, rfl, hw⟩
def wp_J7_hashCode (p0 : Option Nat) (h : AH) (Q : Int32 → AH → Prop) : Prop :=
  nn h p0 41 ∧
  ((((nI (h.kd (adr p0)).2) = 0) →
  Q 0 h) ∧ (¬ ((nI (h.kd (adr p0)).2) = 0) →
  ((((nI (h.kd (adr p0)).2) = 1) →
  ix h p0 41 0 ∧
  Q ((h.ai (adr p0) (ni 0)) &&& 255) h) ∧ (¬ ((nI (h.kd (adr p0)).2) = 1) →
  cl h fun mc9 ms10 => wp_J4_vectorizedHashCode p0 0 (nI (h.kd (adr p0)).2) 0 4 (h.srm mc9 ms10) fun r6 h7 => ∀ h8, h8 = h7.srm (h.rc - mc9) (h.rs - ms10) →
  Q r6 h8))))
theorem hd_J7_hashCode : yJ7_hashCode.cls ≠ "java/lang/invoke/MethodHandle" ∧ yJ7_hashCode.cls ≠ "java/lang/invoke/VarHandle" ∧ (parseMethodDescriptor yJ7_hashCode.desc).map (fun d => d.parameters.length) = some 1 := by decide +kernel
theorem ok_J7_hashCode {l : Launch} {D : va_G} {s0 : S0} (hG : G0 D s0) {p0 : Option Nat} {h : AH} {Q : Int32 → AH → Prop} (hw : wp_J7_hashCode p0 h Q) : OKm l D s0 yJ7_hashCode cJ7_hashCode 1 (some .int) 2 84 [vA p0] h (QI Q) := by
  refine x_metF hG (by decide +kernel) (own := RJ7) (mn := "hashCode") rfl rfl (L0 := [(0, vA p0)]) rfl rfl ?_
  intro K C
  unfold wp_J7_hashCode at hw
  refine x_b C (pc' := 1) (L' := [(0, vA p0)]) (st' := [vA p0]) [(.aload_n 0, 1)] ⟨dJ7_hashCode_0, rfl⟩ rfl ?_
  have hn1 := hw.1
  replace hw := hw.2
  refine x_alen C 41 2 dJ7_hashCode_1 rfl rfl hn1 ?_
  have ks2 : ((nI (h.kd (adr p0)).2) = 0) → K 28 [(0, vA p0)] [] h := by
    intro hcc
    replace hw := hw.1 hcc
    refine x_b C (pc' := 29) (L' := [(0, vA p0)]) (st' := [vI 0]) [(.iconst 0, 1)] ⟨dJ7_hashCode_28, rfl⟩ rfl ?_
    refine x_goto C 51 dJ7_hashCode_29 rfl ?_
    exact x_iret C dJ7_hashCode_51 ⟨_, rfl, hw⟩
  by_cases hs3 : ((nI (h.kd (adr p0)).2) = 0)
  · refine x_lookIn C (v := 0) 28 dJ7_hashCode_2 hs3 rfl rfl rfl ?_
    exact ks2 hs3
  replace hw := hw.2 hs3
  have ks4 : ((nI (h.kd (adr p0)).2) = 1) → K 32 [(0, vA p0)] [] h := by
    intro hcc
    replace hw := hw.1 hcc
    refine x_b C (pc' := 34) (L' := [(0, vA p0)]) (st' := [vI 0, vA p0]) [(.aload_n 0, 1), (.iconst 0, 1)] ⟨dJ7_hashCode_32, dJ7_hashCode_33, rfl⟩ rfl ?_
    refine x_bald C 35 dJ7_hashCode_34 rfl hw.1 ?_
    replace hw := hw.2
    refine x_b C (pc' := 39) (L' := [(0, vA p0)]) (st' := [vI ((h.ai (adr p0) (ni 0)) &&& 255)]) [(.sipush 255, 3), (.iand, 1)] ⟨dJ7_hashCode_35, dJ7_hashCode_38, rfl⟩ rfl ?_
    refine x_goto C 51 dJ7_hashCode_39 rfl ?_
    exact x_iret C dJ7_hashCode_51 ⟨_, rfl, hw⟩
  by_cases hs5 : ((nI (h.kd (adr p0)).2) = 1)
  · refine x_lookIn C (v := 1) 32 dJ7_hashCode_2 hs5 rfl rfl rfl ?_
    exact ks4 hs5
  replace hw := hw.2 hs5
  refine x_lookOut C 42 dJ7_hashCode_2 rfl (lo_cons (lv_neT hs3 (by decide)) (lo_cons (lv_neT hs5 (by decide)) lo_nil)) rfl ?_
  refine x_b C (pc' := 45) (L' := [(0, vA p0)]) (st' := [vA p0, vI 0, vA p0]) [(.aload_n 0, 1), (.iconst 0, 1), (.aload_n 0, 1)] ⟨dJ7_hashCode_42, dJ7_hashCode_43, dJ7_hashCode_44, rfl⟩ rfl ?_
  refine x_alen C 41 46 dJ7_hashCode_45 rfl rfl hn1 ?_
  refine x_b C (pc' := 48) (L' := [(0, vA p0)]) (st' := [vI 4, vI 0, vI (nI (h.kd (adr p0)).2), vI 0, vA p0]) [(.iconst 0, 1), (.iconst 4, 1)] ⟨dJ7_hashCode_46, dJ7_hashCode_47, rfl⟩ rfl ?_
  obtain ⟨mc9, ms10, hle11, hw⟩ := hw
  refine x_cS C 51 (mc2 := mc9) (ms2 := ms10) [vA p0, vI 0, vI (nI (h.kd (adr p0)).2), vI 0, vI 4] [] dJ7_hashCode_48 rfl (ok_J4_vectorizedHashCode hG hw) hle11 q800 q801 q165 q802 hd_J4_vectorizedHashCode ⟨rfl, rfl, rfl⟩ (fun v9 h7 h8 hq9 eh8 => ?_)
  obtain ⟨r6, rfl, hw⟩ := hq9
  replace hw := hw h8 eh8
  exact x_iret C dJ7_hashCode_51 ⟨_, rfl, hw⟩
def wp_J2_hashCode (o : Nat) (h : AH) (Q : Int32 → AH → Prop) : Prop :=
  nn h (some o) 22 ∧
  (((h.fi 2202 o) = 0 →
  (((h.fi 2203 o) = 0 →
  wp_J2_isLatin1 o (h.srm 0 0) fun r4 h5 => ∀ h6, h6 = h5.srm h.rc h.rs →
  xjn (α := Int32) (fun J8 =>
  ((r4 = 0 →
  nn h6 (some o) 22 ∧
  cl h6 fun mc14 ms15 => wp_J3_hashCode (h6.fr 2200 o) (h6.srm mc14 ms15) fun r11 h12 => ∀ h13, h13 = h12.srm (h6.rc - mc14) (h6.rs - ms15) →
  J8 r11 h13) ∧ (¬ r4 = 0 →
  nn h6 (some o) 22 ∧
  cl h6 fun mc21 ms22 => wp_J7_hashCode (h6.fr 2200 o) (h6.srm mc21 ms22) fun r18 h19 => ∀ h20, h20 = h19.srm (h6.rc - mc21) (h6.rs - ms22) →
  J8 r18 h20))) (fun x24 T25 =>
  ((x24 = 0 →
  nn T25 (some o) 22 ∧
  T25.lo ≤ o ∧
  ∀ h30, h30 = T25.sfi 2203 o (1) →
  Q x24 h30) ∧ (¬ x24 = 0 →
  nn T25 (some o) 22 ∧
  T25.lo ≤ o ∧
  ∀ h28, h28 = T25.sfi 2202 o x24 →
  Q x24 h28)))) ∧ (¬ (h.fi 2203 o) = 0 →
  Q (h.fi 2202 o) h))) ∧ (¬ (h.fi 2202 o) = 0 →
  Q (h.fi 2202 o) h))
theorem hd_J2_hashCode : yJ2_hashCode.cls = RJ2 ∧ yJ2_hashCode.cls ≠ "java/lang/invoke/MethodHandle" ∧ yJ2_hashCode.cls ≠ "java/lang/invoke/VarHandle" ∧ (parseMethodDescriptor yJ2_hashCode.desc).map (fun d => d.parameters.length) = some 0 := by decide +kernel
theorem ok_J2_hashCode {l : Launch} {D : va_G} {s0 : S0} (hG : G0 D s0) {o : Nat} {h : AH} {Q : Int32 → AH → Prop} (hw : wp_J2_hashCode o h Q) : OKm l D s0 yJ2_hashCode cJ2_hashCode 2 (some .int) 3 104 [vA (some o)] h (QI Q) := by
  refine x_metF hG (by decide +kernel) (own := RJ2) (mn := "hashCode") rfl rfl (L0 := [(0, vA (some o))]) rfl rfl ?_
  intro K C
  unfold wp_J2_hashCode at hw
  refine x_b C (pc' := 1) (L' := [(0, vA (some o))]) (st' := [vA (some o)]) [(.aload_n 0, 1)] ⟨dJ2_hashCode_0, rfl⟩ rfl ?_
  have hn1 := hw.1
  replace hw := hw.2
  refine x_get C 22 2 (pc' := 4) (v := vI (h.fi 2202 o)) dJ2_hashCode_1 rfl rfl rfl q503 rfl hn1 ?_
  refine x_b C (pc' := 6) (L' := [(1, vI (h.fi 2202 o)), (0, vA (some o))]) (st' := [vI (h.fi 2202 o)]) [(.istore_n 1, 1), (.iload_n 1, 1)] ⟨dJ2_hashCode_4, dJ2_hashCode_5, rfl⟩ rfl ?_
  refine x_if_ne C 58 9 dJ2_hashCode_6 rfl rfl (fun hc2 => ?_) (fun hc2 => ?_)
  · replace hw := hw.2 hc2
    refine x_b C (pc' := 59) (L' := [(1, vI (h.fi 2202 o)), (0, vA (some o))]) (st' := [vI (h.fi 2202 o)]) [(.iload_n 1, 1)] ⟨dJ2_hashCode_58, rfl⟩ rfl ?_
    exact x_iret C dJ2_hashCode_59 ⟨_, rfl, hw⟩
  · replace hw := hw.1 hc2
    refine x_b C (pc' := 10) (L' := [(1, vI (h.fi 2202 o)), (0, vA (some o))]) (st' := [vA (some o)]) [(.aload_n 0, 1)] ⟨dJ2_hashCode_9, rfl⟩ rfl ?_
    refine x_get C 22 3 (pc' := 13) (v := vI (h.fi 2203 o)) dJ2_hashCode_10 rfl rfl rfl q504 rfl hn1 ?_
    refine x_if_ne C 58 16 dJ2_hashCode_13 rfl rfl (fun hc3 => ?_) (fun hc3 => ?_)
    · replace hw := hw.2 hc3
      refine x_b C (pc' := 59) (L' := [(1, vI (h.fi 2202 o)), (0, vA (some o))]) (st' := [vI (h.fi 2202 o)]) [(.iload_n 1, 1)] ⟨dJ2_hashCode_58, rfl⟩ rfl ?_
      exact x_iret C dJ2_hashCode_59 ⟨_, rfl, hw⟩
    · replace hw := hw.1 hc3
      refine x_b C (pc' := 17) (L' := [(1, vI (h.fi 2202 o)), (0, vA (some o))]) (st' := [vA (some o)]) [(.aload_n 0, 1)] ⟨dJ2_hashCode_16, rfl⟩ rfl ?_
      refine x_cV C 22 20 (mc2 := 0) (ms2 := 0) [] [] dJ2_hashCode_17 rfl (ok_J2_isLatin1 hG hw) ⟨Nat.zero_le _, Nat.zero_le _⟩ q523 q524 q525 q163 q526 rfl hd_J2_isLatin1 ⟨rfl, rfl, rfl⟩ hn1 (fun v9 h5 h6 hq9 eh6 => ?_)
      obtain ⟨r4, rfl, hw⟩ := hq9
      replace hw := hw h6 eh6
      obtain ⟨J8, hw, hJ8⟩ := xjn.out hw
      have kj7 : ∀ (x24 : Int32) (T25 : AH), J8 x24 T25 → K 40 [(0, vA (some o))] [vI x24] T25 := by
        intro x24 T25 hj
        replace hw := hJ8 x24 T25 hj
        refine x_b C (pc' := 42) (L' := [(1, vI x24), (0, vA (some o))]) (st' := [vI x24]) [(.istore_n 1, 1), (.iload_n 1, 1)] ⟨dJ2_hashCode_40, dJ2_hashCode_41, rfl⟩ rfl ?_
        refine x_if_ne C 53 45 dJ2_hashCode_42 rfl rfl (fun hc26 => ?_) (fun hc26 => ?_)
        · replace hw := hw.2 hc26
          refine x_b C (pc' := 55) (L' := [(1, vI x24), (0, vA (some o))]) (st' := [vI x24, vA (some o)]) [(.aload_n 0, 1), (.iload_n 1, 1)] ⟨dJ2_hashCode_53, dJ2_hashCode_54, rfl⟩ rfl ?_
          have hn27 := hw.1
          replace hw := hw.2
          refine x_pI C 22 2 58 dJ2_hashCode_55 rfl rfl rfl rfl q503 (fun _ _ _ => rfl) rfl rfl hn27 (Or.inr hw.1) (fun h28 eh28 => ?_)
          replace hw := hw.2 h28 eh28
          refine x_b C (pc' := 59) (L' := [(1, vI x24), (0, vA (some o))]) (st' := [vI x24]) [(.iload_n 1, 1)] ⟨dJ2_hashCode_58, rfl⟩ rfl ?_
          exact x_iret C dJ2_hashCode_59 ⟨_, rfl, hw⟩
        · replace hw := hw.1 hc26
          refine x_b C (pc' := 47) (L' := [(1, vI x24), (0, vA (some o))]) (st' := [vI 1, vA (some o)]) [(.aload_n 0, 1), (.iconst 1, 1)] ⟨dJ2_hashCode_45, dJ2_hashCode_46, rfl⟩ rfl ?_
          have hn29 := hw.1
          replace hw := hw.2
          refine x_pI C 22 3 50 dJ2_hashCode_47 rfl rfl rfl rfl q504 (fun _ _ _ => rfl) rfl rfl hn29 (Or.inr hw.1) (fun h30 eh30 => ?_)
          replace hw := hw.2 h30 eh30
          refine x_goto C 58 dJ2_hashCode_50 rfl ?_
          refine x_b C (pc' := 59) (L' := [(1, vI x24), (0, vA (some o))]) (st' := [vI x24]) [(.iload_n 1, 1)] ⟨dJ2_hashCode_58, rfl⟩ rfl ?_
          exact x_iret C dJ2_hashCode_59 ⟨_, rfl, hw⟩
      refine x_if_eq C 33 23 dJ2_hashCode_20 rfl rfl (fun hc9 => ?_) (fun hc9 => ?_)
      · replace hw := hw.1 hc9
        refine x_b C (pc' := 34) (L' := [(1, vI (h.fi 2202 o)), (0, vA (some o))]) (st' := [vA (some o)]) [(.aload_n 0, 1)] ⟨dJ2_hashCode_33, rfl⟩ rfl ?_
        have hn10 := hw.1
        replace hw := hw.2
        refine x_get C 22 0 (pc' := 37) (v := vA (h6.fr 2200 o)) dJ2_hashCode_34 rfl rfl rfl q501 rfl hn10 ?_
        obtain ⟨mc14, ms15, hle16, hw⟩ := hw
        refine x_cS C 40 (mc2 := mc14) (ms2 := ms15) [vA (h6.fr 2200 o)] [] dJ2_hashCode_37 rfl (ok_J3_hashCode hG hw) hle16 q838 q839 q164 q840 hd_J3_hashCode ⟨rfl, rfl, rfl⟩ (fun v9 h12 h13 hq9 eh13 => ?_)
        obtain ⟨r11, rfl, hw⟩ := hq9
        replace hw := hw h13 eh13
        refine x_sub C (L' := [(0, vA (some o))]) [1] rfl ?_
        exact kj7 r11 h13 hw
      · replace hw := hw.2 hc9
        refine x_b C (pc' := 24) (L' := [(1, vI (h.fi 2202 o)), (0, vA (some o))]) (st' := [vA (some o)]) [(.aload_n 0, 1)] ⟨dJ2_hashCode_23, rfl⟩ rfl ?_
        have hn17 := hw.1
        replace hw := hw.2
        refine x_get C 22 0 (pc' := 27) (v := vA (h6.fr 2200 o)) dJ2_hashCode_24 rfl rfl rfl q501 rfl hn17 ?_
        obtain ⟨mc21, ms22, hle23, hw⟩ := hw
        refine x_cS C 30 (mc2 := mc21) (ms2 := ms22) [vA (h6.fr 2200 o)] [] dJ2_hashCode_27 rfl (ok_J7_hashCode hG hw) hle23 q797 q798 q169 q799 hd_J7_hashCode ⟨rfl, rfl, rfl⟩ (fun v9 h19 h20 hq9 eh20 => ?_)
        obtain ⟨r18, rfl, hw⟩ := hq9
        replace hw := hw h20 eh20
        refine x_goto C 40 dJ2_hashCode_30 rfl ?_
        refine x_sub C (L' := [(0, vA (some o))]) [1] rfl ?_
        exact kj7 r18 h20 hw
def wp_J2_length (o : Nat) (h : AH) (Q : Int32 → AH → Prop) : Prop :=
  nn h (some o) 22 ∧
  nn h (h.fr 2200 o) 41 ∧
  wp_J2_coder o (h.srm 0 0) fun r3 h4 => ∀ h5, h5 = h4.srm h.rc h.rs →
  Q (jshr (nI (h.kd (adr (h.fr 2200 o))).2) r3) h5
theorem hd_J2_length : yJ2_length.cls = RJ2 ∧ yJ2_length.cls ≠ "java/lang/invoke/MethodHandle" ∧ yJ2_length.cls ≠ "java/lang/invoke/VarHandle" ∧ (parseMethodDescriptor yJ2_length.desc).map (fun d => d.parameters.length) = some 0 := by decide +kernel
theorem ok_J2_length {l : Launch} {D : va_G} {s0 : S0} (hG : G0 D s0) {o : Nat} {h : AH} {Q : Int32 → AH → Prop} (hw : wp_J2_length o h Q) : OKm l D s0 yJ2_length cJ2_length 1 (some .int) 1 60 [vA (some o)] h (QI Q) := by
  refine x_metF hG (by decide +kernel) (own := RJ2) (mn := "length") rfl rfl (L0 := [(0, vA (some o))]) rfl rfl ?_
  intro K C
  unfold wp_J2_length at hw
  refine x_b C (pc' := 1) (L' := [(0, vA (some o))]) (st' := [vA (some o)]) [(.aload_n 0, 1)] ⟨dJ2_length_0, rfl⟩ rfl ?_
  have hn1 := hw.1
  replace hw := hw.2
  refine x_get C 22 0 (pc' := 4) (v := vA (h.fr 2200 o)) dJ2_length_1 rfl rfl rfl q501 rfl hn1 ?_
  have hn2 := hw.1
  replace hw := hw.2
  refine x_alen C 41 5 dJ2_length_4 rfl rfl hn2 ?_
  refine x_b C (pc' := 6) (L' := [(0, vA (some o))]) (st' := [vA (some o), vI (nI (h.kd (adr (h.fr 2200 o))).2)]) [(.aload_n 0, 1)] ⟨dJ2_length_5, rfl⟩ rfl ?_
  refine x_cV C 22 9 (mc2 := 0) (ms2 := 0) [] [vI (nI (h.kd (adr (h.fr 2200 o))).2)] dJ2_length_6 rfl (ok_J2_coder hG hw) ⟨Nat.zero_le _, Nat.zero_le _⟩ q531 q532 q533 q163 q534 rfl hd_J2_coder ⟨rfl, rfl, rfl⟩ hn1 (fun v9 h4 h5 hq9 eh5 => ?_)
  obtain ⟨r3, rfl, hw⟩ := hq9
  replace hw := hw h5 eh5
  refine x_b C (pc' := 10) (L' := [(0, vA (some o))]) (st' := [vI (jshr (nI (h.kd (adr (h.fr 2200 o))).2) r3)]) [(.ishr, 1)] ⟨dJ2_length_9, rfl⟩ rfl ?_
  exact x_iret C dJ2_length_10 ⟨_, rfl, hw⟩
def wp_J3_checkBoundsBeginEnd (p0 : Int32) (p1 : Int32) (p2 : Option Nat) (h : AH) (Q : AH → Prop) : Prop :=
  wp_J3_length p2 (h.srm 0 0) fun r1 h2 => ∀ h3, h3 = h2.srm h.rc h.rs →
  wp_J2_checkBoundsBeginEnd p0 p1 r1 (h3.srm 0 0) fun h5 => ∀ h6, h6 = h5.srm h3.rc h3.rs →
  Q h6
theorem hd_J3_checkBoundsBeginEnd : yJ3_checkBoundsBeginEnd.cls ≠ "java/lang/invoke/MethodHandle" ∧ yJ3_checkBoundsBeginEnd.cls ≠ "java/lang/invoke/VarHandle" ∧ (parseMethodDescriptor yJ3_checkBoundsBeginEnd.desc).map (fun d => d.parameters.length) = some 3 := by decide +kernel
theorem ok_J3_checkBoundsBeginEnd {l : Launch} {D : va_G} {s0 : S0} (hG : G0 D s0) {p0 : Int32} {p1 : Int32} {p2 : Option Nat} {h : AH} {Q : AH → Prop} (hw : wp_J3_checkBoundsBeginEnd p0 p1 p2 h Q) : OKm l D s0 yJ3_checkBoundsBeginEnd cJ3_checkBoundsBeginEnd 3 none 3 105 [vI p0, vI p1, vA p2] h (QV Q) := by
  refine x_metF hG (by decide +kernel) (own := RJ3) (mn := "checkBoundsBeginEnd") rfl rfl (L0 := [(0, vI p0), (1, vI p1), (2, vA p2)]) rfl rfl ?_
  intro K C
  unfold wp_J3_checkBoundsBeginEnd at hw
  refine x_b C (pc' := 3) (L' := [(0, vI p0), (1, vI p1), (2, vA p2)]) (st' := [vA p2, vI p1, vI p0]) [(.iload_n 0, 1), (.iload_n 1, 1), (.aload_n 2, 1)] ⟨dJ3_checkBoundsBeginEnd_0, dJ3_checkBoundsBeginEnd_1, dJ3_checkBoundsBeginEnd_2, rfl⟩ rfl ?_
  refine x_cS C 6 (mc2 := 0) (ms2 := 0) [vA p2] [vI p1, vI p0] dJ3_checkBoundsBeginEnd_3 rfl (ok_J3_length hG hw) ⟨Nat.zero_le _, Nat.zero_le _⟩ q419 q420 q164 q421 hd_J3_length ⟨rfl, rfl, rfl⟩ (fun v9 h2 h3 hq9 eh3 => ?_)
  obtain ⟨r1, rfl, hw⟩ := hq9
  replace hw := hw h3 eh3
  refine x_cS C 9 (mc2 := 0) (ms2 := 0) [vI p0, vI p1, vI r1] [] dJ3_checkBoundsBeginEnd_6 rfl (ok_J2_checkBoundsBeginEnd hG hw) ⟨Nat.zero_le _, Nat.zero_le _⟩ q558 q559 q163 q560 hd_J2_checkBoundsBeginEnd ⟨rfl, rfl, rfl⟩ (fun v9 h5 h6 hq9 eh6 => ?_)
  obtain ⟨rfl, hw⟩ := hq9
  replace hw := hw h6 eh6
  exact x_vret C dJ3_checkBoundsBeginEnd_9 ⟨rfl, hw⟩
def wp_J3_indexOfCharUnsafe (p0 : Option Nat) (p1 : Int32) (p2 : Int32) (p3 : Int32) (h : AH) (Q : Int32 → AH → Prop) : Prop :=
  xlp (σ := Int32) (fun s1 T2 k1 =>
  ((p3 ≤ s1 →
  Q (-1) T2) ∧ (¬ p3 ≤ s1 →
  cl T2 fun mc7 ms8 => wp_J3_getChar p0 s1 (T2.srm mc7 ms8) fun r4 h5 => ∀ h6, h6 = h5.srm (T2.rc - mc7) (T2.rs - ms8) →
  ((r4 = p1 →
  Q s1 h6) ∧ (¬ r4 = p1 →
  k1 (s1 + 1) h6))))) p2 h
theorem hd_J3_indexOfCharUnsafe : yJ3_indexOfCharUnsafe.cls ≠ "java/lang/invoke/MethodHandle" ∧ yJ3_indexOfCharUnsafe.cls ≠ "java/lang/invoke/VarHandle" ∧ (parseMethodDescriptor yJ3_indexOfCharUnsafe.desc).map (fun d => d.parameters.length) = some 4 := by decide +kernel
theorem ok_J3_indexOfCharUnsafe {l : Launch} {D : va_G} {s0 : S0} (hG : G0 D s0) {p0 : Option Nat} {p1 : Int32} {p2 : Int32} {p3 : Int32} {h : AH} {Q : Int32 → AH → Prop} (hw : wp_J3_indexOfCharUnsafe p0 p1 p2 p3 h Q) : OKm l D s0 yJ3_indexOfCharUnsafe cJ3_indexOfCharUnsafe 5 (some .int) 2 81 [vA p0, vI p1, vI p2, vI p3] h (QI Q) := by
  refine x_metF hG (by decide +kernel) (own := RJ3) (mn := "indexOfCharUnsafe") rfl rfl (L0 := [(0, vA p0), (1, vI p1), (2, vI p2), (3, vI p3)]) rfl rfl ?_
  intro K C
  unfold wp_J3_indexOfCharUnsafe at hw
  refine x_b C (pc' := 3) (L' := [(4, vI p2), (0, vA p0), (1, vI p1), (2, vI p2), (3, vI p3)]) (st' := []) [(.iload_n 2, 1), (.istore 4, 2)] ⟨dJ3_indexOfCharUnsafe_0, dJ3_indexOfCharUnsafe_1, rfl⟩ rfl ?_
  obtain ⟨I1, ⟨n1, hI1⟩, hB1⟩ := xlp.out hw
  refine x_sub C (L' := [(0, vA p0), (1, vI p1), (3, vI p3), (4, vI p2)]) [1, 2, 4, 0] rfl ?_
  have key1 : ∀ (n : Nat) (s1 : Int32) (T2 : AH), I1 n s1 T2 → K 3 [(0, vA p0), (1, vI p1), (3, vI p3), (4, vI s1)] [] T2 := by
    intro n
    induction n using Nat.strongRecOn with
    | ind n ih1 =>
      intro s1 T2 hI
      replace hw := hB1 n s1 T2 hI
      refine x_b C (pc' := 6) (L' := [(0, vA p0), (1, vI p1), (3, vI p3), (4, vI s1)]) (st' := [vI p3, vI s1]) [(.iload 4, 2), (.iload_n 3, 1)] ⟨dJ3_indexOfCharUnsafe_3, dJ3_indexOfCharUnsafe_5, rfl⟩ rfl ?_
      refine x_icmp_ge C 28 9 dJ3_indexOfCharUnsafe_6 rfl rfl (fun hc3 => ?_) (fun hc3 => ?_)
      · replace hw := hw.1 hc3
        refine x_b C (pc' := 29) (L' := [(0, vA p0), (1, vI p1), (3, vI p3), (4, vI s1)]) (st' := [vI (-1)]) [(.iconst (-1), 1)] ⟨dJ3_indexOfCharUnsafe_28, rfl⟩ rfl ?_
        exact x_iret C dJ3_indexOfCharUnsafe_29 ⟨_, rfl, hw⟩
      · replace hw := hw.2 hc3
        refine x_b C (pc' := 12) (L' := [(0, vA p0), (1, vI p1), (3, vI p3), (4, vI s1)]) (st' := [vI s1, vA p0]) [(.aload_n 0, 1), (.iload 4, 2)] ⟨dJ3_indexOfCharUnsafe_9, dJ3_indexOfCharUnsafe_10, rfl⟩ rfl ?_
        obtain ⟨mc7, ms8, hle9, hw⟩ := hw
        refine x_cS C 15 (mc2 := mc7) (ms2 := ms8) [vA p0, vI s1] [] dJ3_indexOfCharUnsafe_12 rfl (ok_J3_getChar hG hw) hle9 q494 q495 q164 q496 hd_J3_getChar ⟨rfl, rfl, rfl⟩ (fun v9 h5 h6 hq9 eh6 => ?_)
        obtain ⟨r4, rfl, hw⟩ := hq9
        replace hw := hw h6 eh6
        refine x_b C (pc' := 16) (L' := [(0, vA p0), (1, vI p1), (3, vI p3), (4, vI s1)]) (st' := [vI p1, vI r4]) [(.iload_n 1, 1)] ⟨dJ3_indexOfCharUnsafe_15, rfl⟩ rfl ?_
        refine x_icmp_ne C 22 19 dJ3_indexOfCharUnsafe_16 rfl rfl (fun hc10 => ?_) (fun hc10 => ?_)
        · replace hw := hw.2 hc10
          refine x_b C (pc' := 25) (L' := [(4, vI (s1 + 1)), (0, vA p0), (1, vI p1), (3, vI p3)]) (st' := []) [(.iinc 4 1, 3)] ⟨dJ3_indexOfCharUnsafe_22, rfl⟩ rfl ?_
          refine x_goto C 3 dJ3_indexOfCharUnsafe_25 rfl ?_
          refine x_sub C (L' := [(0, vA p0), (1, vI p1), (3, vI p3), (4, vI (s1 + 1))]) [1, 2, 3, 0] rfl ?_
          obtain ⟨m9, hm9, hw⟩ := hw
          exact ih1 m9 hm9 (s1 + 1) h6 hw
        · replace hw := hw.1 hc10
          refine x_b C (pc' := 21) (L' := [(0, vA p0), (1, vI p1), (3, vI p3), (4, vI s1)]) (st' := [vI s1]) [(.iload 4, 2)] ⟨dJ3_indexOfCharUnsafe_19, rfl⟩ rfl ?_
          exact x_iret C dJ3_indexOfCharUnsafe_21 ⟨_, rfl, hw⟩
  exact key1 n1 p2 h hI1
def wp_J3_indexOfChar (p0 : Option Nat) (p1 : Int32) (p2 : Int32) (p3 : Int32) (h : AH) (Q : Int32 → AH → Prop) : Prop :=
  wp_J3_checkBoundsBeginEnd p2 p3 p0 (h.srm 0 0) fun h2 => ∀ h3, h3 = h2.srm h.rc h.rs →
  cl h3 fun mc7 ms8 => wp_J3_indexOfCharUnsafe p0 p1 p2 p3 (h3.srm mc7 ms8) fun r4 h5 => ∀ h6, h6 = h5.srm (h3.rc - mc7) (h3.rs - ms8) →
  Q r4 h6
theorem hd_J3_indexOfChar : yJ3_indexOfChar.cls ≠ "java/lang/invoke/MethodHandle" ∧ yJ3_indexOfChar.cls ≠ "java/lang/invoke/VarHandle" ∧ (parseMethodDescriptor yJ3_indexOfChar.desc).map (fun d => d.parameters.length) = some 4 := by decide +kernel
theorem ok_J3_indexOfChar {l : Launch} {D : va_G} {s0 : S0} (hG : G0 D s0) {p0 : Option Nat} {p1 : Int32} {p2 : Int32} {p3 : Int32} {h : AH} {Q : Int32 → AH → Prop} (hw : wp_J3_indexOfChar p0 p1 p2 p3 h Q) : OKm l D s0 yJ3_indexOfChar cJ3_indexOfChar 4 (some .int) 4 127 [vA p0, vI p1, vI p2, vI p3] h (QI Q) := by
  refine x_metF hG (by decide +kernel) (own := RJ3) (mn := "indexOfChar") rfl rfl (L0 := [(0, vA p0), (1, vI p1), (2, vI p2), (3, vI p3)]) rfl rfl ?_
  intro K C
  unfold wp_J3_indexOfChar at hw
  refine x_b C (pc' := 3) (L' := [(0, vA p0), (1, vI p1), (2, vI p2), (3, vI p3)]) (st' := [vA p0, vI p3, vI p2]) [(.iload_n 2, 1), (.iload_n 3, 1), (.aload_n 0, 1)] ⟨dJ3_indexOfChar_0, dJ3_indexOfChar_1, dJ3_indexOfChar_2, rfl⟩ rfl ?_
  refine x_cS C 6 (mc2 := 0) (ms2 := 0) [vI p2, vI p3, vA p0] [] dJ3_indexOfChar_3 rfl (ok_J3_checkBoundsBeginEnd hG hw) ⟨Nat.zero_le _, Nat.zero_le _⟩ q555 q556 q164 q557 hd_J3_checkBoundsBeginEnd ⟨rfl, rfl, rfl⟩ (fun v9 h2 h3 hq9 eh3 => ?_)
  obtain ⟨rfl, hw⟩ := hq9
  replace hw := hw h3 eh3
  refine x_b C (pc' := 10) (L' := [(0, vA p0), (1, vI p1), (2, vI p2), (3, vI p3)]) (st' := [vI p3, vI p2, vI p1, vA p0]) [(.aload_n 0, 1), (.iload_n 1, 1), (.iload_n 2, 1), (.iload_n 3, 1)] ⟨dJ3_indexOfChar_6, dJ3_indexOfChar_7, dJ3_indexOfChar_8, dJ3_indexOfChar_9, rfl⟩ rfl ?_
  obtain ⟨mc7, ms8, hle9, hw⟩ := hw
  refine x_cS C 13 (mc2 := mc7) (ms2 := ms8) [vA p0, vI p1, vI p2, vI p3] [] dJ3_indexOfChar_10 rfl (ok_J3_indexOfCharUnsafe hG hw) hle9 q564 q565 q164 q566 hd_J3_indexOfCharUnsafe ⟨rfl, rfl, rfl⟩ (fun v9 h5 h6 hq9 eh6 => ?_)
  obtain ⟨r4, rfl, hw⟩ := hq9
  replace hw := hw h6 eh6
  exact x_iret C dJ3_indexOfChar_13 ⟨_, rfl, hw⟩
def wp_J9_highSurrogate (p0 : Int32) (h : AH) (Q : Int32 → AH → Prop) : Prop :=
  narrow .char (.int (ji2c ((jushr p0 10) + 55232))) = .int (ji2c ((jushr p0 10) + 55232)) ∧ Q (ji2c ((jushr p0 10) + 55232)) h
theorem hd_J9_highSurrogate : yJ9_highSurrogate.cls ≠ "java/lang/invoke/MethodHandle" ∧ yJ9_highSurrogate.cls ≠ "java/lang/invoke/VarHandle" ∧ (parseMethodDescriptor yJ9_highSurrogate.desc).map (fun d => d.parameters.length) = some 1 := by decide +kernel
theorem ok_J9_highSurrogate {l : Launch} {D : va_G} {s0 : S0} (hG : G0 D s0) {p0 : Int32} {h : AH} {Q : Int32 → AH → Prop} (hw : wp_J9_highSurrogate p0 h Q) : OKm l D s0 yJ9_highSurrogate cJ9_highSurrogate 1 (some .char) 0 0 [vI p0] h (QI Q) := by
  refine x_metF hG (by decide +kernel) (own := RJ9) (mn := "highSurrogate") rfl rfl (L0 := [(0, vI p0)]) rfl rfl ?_
  intro K C
  unfold wp_J9_highSurrogate at hw
  refine x_b C (pc' := 4) (L' := [(0, vI p0)]) (st' := [vI (jushr p0 10)]) [(.iload_n 0, 1), (.bipush 10, 2), (.iushr, 1)] ⟨dJ9_highSurrogate_0, dJ9_highSurrogate_1, dJ9_highSurrogate_3, rfl⟩ rfl ?_
  refine x_ldc C (v := 55232) 6 dJ9_highSurrogate_4 rfl q576 ?_
  refine x_b C (pc' := 8) (L' := [(0, vI p0)]) (st' := [vI (ji2c ((jushr p0 10) + 55232))]) [(.iadd, 1), (.i2c, 1)] ⟨dJ9_highSurrogate_6, dJ9_highSurrogate_7, rfl⟩ rfl ?_
  exact x_zret C dJ9_highSurrogate_8 hw.1 ⟨_, rfl, hw.2⟩
def wp_J9_isValidCodePoint (p0 : Int32) (h : AH) (Q : Int32 → AH → Prop) : Prop :=
  ∀ m1 : Int32, m1 = (if 17 ≤ (jushr p0 16) then 0 else 1) →
  bz m1 ∧ Q m1 h
theorem hd_J9_isValidCodePoint : yJ9_isValidCodePoint.cls ≠ "java/lang/invoke/MethodHandle" ∧ yJ9_isValidCodePoint.cls ≠ "java/lang/invoke/VarHandle" ∧ (parseMethodDescriptor yJ9_isValidCodePoint.desc).map (fun d => d.parameters.length) = some 1 := by decide +kernel
theorem ok_J9_isValidCodePoint {l : Launch} {D : va_G} {s0 : S0} (hG : G0 D s0) {p0 : Int32} {h : AH} {Q : Int32 → AH → Prop} (hw : wp_J9_isValidCodePoint p0 h Q) : OKm l D s0 yJ9_isValidCodePoint cJ9_isValidCodePoint 2 (some .boolean) 0 0 [vI p0] h (QI Q) := by
  refine x_metF hG (by decide +kernel) (own := RJ9) (mn := "isValidCodePoint") rfl rfl (L0 := [(0, vI p0)]) rfl rfl ?_
  intro K C
  unfold wp_J9_isValidCodePoint at hw
  refine x_b C (pc' := 8) (L' := [(1, vI (jushr p0 16)), (0, vI p0)]) (st' := [vI 17, vI (jushr p0 16)]) [(.iload_n 0, 1), (.bipush 16, 2), (.iushr, 1), (.istore_n 1, 1), (.iload_n 1, 1), (.bipush 17, 2)] ⟨dJ9_isValidCodePoint_0, dJ9_isValidCodePoint_1, dJ9_isValidCodePoint_3, dJ9_isValidCodePoint_4, dJ9_isValidCodePoint_5, dJ9_isValidCodePoint_6, rfl⟩ rfl ?_
  have kj2 : ∀ (m1 : Int32), m1 = (if 17 ≤ (jushr p0 16) then 0 else 1) → K 16 [] [vI m1] h := by
    intro m1 em1
    replace hw := hw m1 em1
    exact x_zret C dJ9_isValidCodePoint_16 (bz_n hw.1) ⟨_, rfl, hw.2⟩
  refine x_icmp_ge C 15 11 dJ9_isValidCodePoint_8 rfl rfl (fun hc3 => ?_) (fun hc3 => ?_)
  · refine x_b C (pc' := 16) (L' := [(1, vI (jushr p0 16)), (0, vI p0)]) (st' := [vI 0]) [(.iconst 0, 1)] ⟨dJ9_isValidCodePoint_15, rfl⟩ rfl ?_
    refine x_sub C (L' := []) [] rfl ?_
    exact kj2 _ ((if_pos hc3).symm)
  · refine x_b C (pc' := 12) (L' := [(1, vI (jushr p0 16)), (0, vI p0)]) (st' := [vI 1]) [(.iconst 1, 1)] ⟨dJ9_isValidCodePoint_11, rfl⟩ rfl ?_
    refine x_goto C 16 dJ9_isValidCodePoint_12 rfl ?_
    refine x_sub C (L' := []) [] rfl ?_
    exact kj2 _ ((if_neg hc3).symm)
def wp_J9_lowSurrogate (p0 : Int32) (h : AH) (Q : Int32 → AH → Prop) : Prop :=
  narrow .char (.int (ji2c ((p0 &&& 1023) + 56320))) = .int (ji2c ((p0 &&& 1023) + 56320)) ∧ Q (ji2c ((p0 &&& 1023) + 56320)) h
theorem hd_J9_lowSurrogate : yJ9_lowSurrogate.cls ≠ "java/lang/invoke/MethodHandle" ∧ yJ9_lowSurrogate.cls ≠ "java/lang/invoke/VarHandle" ∧ (parseMethodDescriptor yJ9_lowSurrogate.desc).map (fun d => d.parameters.length) = some 1 := by decide +kernel
theorem ok_J9_lowSurrogate {l : Launch} {D : va_G} {s0 : S0} (hG : G0 D s0) {p0 : Int32} {h : AH} {Q : Int32 → AH → Prop} (hw : wp_J9_lowSurrogate p0 h Q) : OKm l D s0 yJ9_lowSurrogate cJ9_lowSurrogate 1 (some .char) 0 0 [vI p0] h (QI Q) := by
  refine x_metF hG (by decide +kernel) (own := RJ9) (mn := "lowSurrogate") rfl rfl (L0 := [(0, vI p0)]) rfl rfl ?_
  intro K C
  unfold wp_J9_lowSurrogate at hw
  refine x_b C (pc' := 5) (L' := [(0, vI p0)]) (st' := [vI (p0 &&& 1023)]) [(.iload_n 0, 1), (.sipush 1023, 3), (.iand, 1)] ⟨dJ9_lowSurrogate_0, dJ9_lowSurrogate_1, dJ9_lowSurrogate_4, rfl⟩ rfl ?_
  refine x_ldc C (v := 56320) 7 dJ9_lowSurrogate_5 rfl q580 ?_
  refine x_b C (pc' := 9) (L' := [(0, vI p0)]) (st' := [vI (ji2c ((p0 &&& 1023) + 56320))]) [(.iadd, 1), (.i2c, 1)] ⟨dJ9_lowSurrogate_7, dJ9_lowSurrogate_8, rfl⟩ rfl ?_
  exact x_zret C dJ9_lowSurrogate_9 hw.1 ⟨_, rfl, hw.2⟩
def wp_J3_indexOfSupplementary (p0 : Option Nat) (p1 : Int32) (p2 : Int32) (p3 : Int32) (h : AH) (Q : Int32 → AH → Prop) : Prop :=
  wp_J9_isValidCodePoint p1 (h.srm 0 0) fun r1 h2 => ∀ h3, h3 = h2.srm h.rc h.rs →
  ((r1 = 0 →
  Q (-1) h3) ∧ (¬ r1 = 0 →
  wp_J9_highSurrogate p1 (h3.srm 0 0) fun r5 h6 => ∀ h7, h7 = h6.srm h3.rc h3.rs →
  wp_J9_lowSurrogate p1 (h7.srm 0 0) fun r8 h9 => ∀ h10, h10 = h9.srm h7.rc h7.rs →
  wp_J3_checkBoundsBeginEnd p2 p3 p0 (h10.srm 0 0) fun h12 => ∀ h13, h13 = h12.srm h10.rc h10.rs →
  xlp (σ := Int32) (fun s14 T15 k14 =>
  (((p3 - 1) ≤ s14 →
  Q (-1) T15) ∧ (¬ (p3 - 1) ≤ s14 →
  cl T15 fun mc20 ms21 => wp_J3_getChar p0 s14 (T15.srm mc20 ms21) fun r17 h18 => ∀ h19, h19 = h18.srm (T15.rc - mc20) (T15.rs - ms21) →
  ((r17 = r5 →
  cl h19 fun mc27 ms28 => wp_J3_getChar p0 (s14 + 1) (h19.srm mc27 ms28) fun r24 h25 => ∀ h26, h26 = h25.srm (h19.rc - mc27) (h19.rs - ms28) →
  ((r24 = r8 →
  Q s14 h26) ∧ (¬ r24 = r8 →
  k14 (s14 + 1) h26))) ∧ (¬ r17 = r5 →
  k14 (s14 + 1) h19))))) p2 h13))
theorem hd_J3_indexOfSupplementary : yJ3_indexOfSupplementary.cls ≠ "java/lang/invoke/MethodHandle" ∧ yJ3_indexOfSupplementary.cls ≠ "java/lang/invoke/VarHandle" ∧ (parseMethodDescriptor yJ3_indexOfSupplementary.desc).map (fun d => d.parameters.length) = some 4 := by decide +kernel
theorem ok_J3_indexOfSupplementary {l : Launch} {D : va_G} {s0 : S0} (hG : G0 D s0) {p0 : Option Nat} {p1 : Int32} {p2 : Int32} {p3 : Int32} {h : AH} {Q : Int32 → AH → Prop} (hw : wp_J3_indexOfSupplementary p0 p1 p2 p3 h Q) : OKm l D s0 yJ3_indexOfSupplementary cJ3_indexOfSupplementary 7 (some .int) 4 127 [vA p0, vI p1, vI p2, vI p3] h (QI Q) := by
  refine x_metF hG (by decide +kernel) (own := RJ3) (mn := "indexOfSupplementary") rfl rfl (L0 := [(0, vA p0), (1, vI p1), (2, vI p2), (3, vI p3)]) rfl rfl ?_
  intro K C
  unfold wp_J3_indexOfSupplementary at hw
  refine x_b C (pc' := 1) (L' := [(0, vA p0), (1, vI p1), (2, vI p2), (3, vI p3)]) (st' := [vI p1]) [(.iload_n 1, 1)] ⟨dJ3_indexOfSupplementary_0, rfl⟩ rfl ?_
  refine x_cS C 4 (mc2 := 0) (ms2 := 0) [vI p1] [] dJ3_indexOfSupplementary_1 rfl (ok_J9_isValidCodePoint hG hw) ⟨Nat.zero_le _, Nat.zero_le _⟩ q570 q571 q171 q572 hd_J9_isValidCodePoint ⟨rfl, rfl, rfl⟩ (fun v9 h2 h3 hq9 eh3 => ?_)
  obtain ⟨r1, rfl, hw⟩ := hq9
  replace hw := hw h3 eh3
  refine x_if_eq C 69 7 dJ3_indexOfSupplementary_4 rfl rfl (fun hc4 => ?_) (fun hc4 => ?_)
  · replace hw := hw.1 hc4
    refine x_b C (pc' := 70) (L' := [(0, vA p0), (1, vI p1), (2, vI p2), (3, vI p3)]) (st' := [vI (-1)]) [(.iconst (-1), 1)] ⟨dJ3_indexOfSupplementary_69, rfl⟩ rfl ?_
    exact x_iret C dJ3_indexOfSupplementary_70 ⟨_, rfl, hw⟩
  · replace hw := hw.2 hc4
    refine x_b C (pc' := 8) (L' := [(0, vA p0), (1, vI p1), (2, vI p2), (3, vI p3)]) (st' := [vI p1]) [(.iload_n 1, 1)] ⟨dJ3_indexOfSupplementary_7, rfl⟩ rfl ?_
    refine x_cS C 11 (mc2 := 0) (ms2 := 0) [vI p1] [] dJ3_indexOfSupplementary_8 rfl (ok_J9_highSurrogate hG hw) ⟨Nat.zero_le _, Nat.zero_le _⟩ q573 q574 q171 q575 hd_J9_highSurrogate ⟨rfl, rfl, rfl⟩ (fun v9 h6 h7 hq9 eh7 => ?_)
    obtain ⟨r5, rfl, hw⟩ := hq9
    replace hw := hw h7 eh7
    refine x_b C (pc' := 14) (L' := [(4, vI r5), (0, vA p0), (1, vI p1), (2, vI p2), (3, vI p3)]) (st' := [vI p1]) [(.istore 4, 2), (.iload_n 1, 1)] ⟨dJ3_indexOfSupplementary_11, dJ3_indexOfSupplementary_13, rfl⟩ rfl ?_
    refine x_cS C 17 (mc2 := 0) (ms2 := 0) [vI p1] [] dJ3_indexOfSupplementary_14 rfl (ok_J9_lowSurrogate hG hw) ⟨Nat.zero_le _, Nat.zero_le _⟩ q577 q578 q171 q579 hd_J9_lowSurrogate ⟨rfl, rfl, rfl⟩ (fun v9 h9 h10 hq9 eh10 => ?_)
    obtain ⟨r8, rfl, hw⟩ := hq9
    replace hw := hw h10 eh10
    refine x_b C (pc' := 22) (L' := [(5, vI r8), (4, vI r5), (0, vA p0), (1, vI p1), (2, vI p2), (3, vI p3)]) (st' := [vA p0, vI p3, vI p2]) [(.istore 5, 2), (.iload_n 2, 1), (.iload_n 3, 1), (.aload_n 0, 1)] ⟨dJ3_indexOfSupplementary_17, dJ3_indexOfSupplementary_19, dJ3_indexOfSupplementary_20, dJ3_indexOfSupplementary_21, rfl⟩ rfl ?_
    refine x_cS C 25 (mc2 := 0) (ms2 := 0) [vI p2, vI p3, vA p0] [] dJ3_indexOfSupplementary_22 rfl (ok_J3_checkBoundsBeginEnd hG hw) ⟨Nat.zero_le _, Nat.zero_le _⟩ q555 q556 q164 q557 hd_J3_checkBoundsBeginEnd ⟨rfl, rfl, rfl⟩ (fun v9 h12 h13 hq9 eh13 => ?_)
    obtain ⟨rfl, hw⟩ := hq9
    replace hw := hw h13 eh13
    refine x_b C (pc' := 28) (L' := [(6, vI p2), (5, vI r8), (4, vI r5), (0, vA p0), (1, vI p1), (2, vI p2), (3, vI p3)]) (st' := []) [(.iload_n 2, 1), (.istore 6, 2)] ⟨dJ3_indexOfSupplementary_25, dJ3_indexOfSupplementary_26, rfl⟩ rfl ?_
    obtain ⟨I14, ⟨n14, hI14⟩, hB14⟩ := xlp.out hw
    refine x_sub C (L' := [(0, vA p0), (3, vI p3), (4, vI r5), (5, vI r8), (6, vI p2)]) [3, 6, 2, 1, 0] rfl ?_
    have key14 : ∀ (n : Nat) (s14 : Int32) (T15 : AH), I14 n s14 T15 → K 28 [(0, vA p0), (3, vI p3), (4, vI r5), (5, vI r8), (6, vI s14)] [] T15 := by
      intro n
      induction n using Nat.strongRecOn with
      | ind n ih14 =>
        intro s14 T15 hI
        replace hw := hB14 n s14 T15 hI
        refine x_b C (pc' := 33) (L' := [(0, vA p0), (3, vI p3), (4, vI r5), (5, vI r8), (6, vI s14)]) (st' := [vI (p3 - 1), vI s14]) [(.iload 6, 2), (.iload_n 3, 1), (.iconst 1, 1), (.isub, 1)] ⟨dJ3_indexOfSupplementary_28, dJ3_indexOfSupplementary_30, dJ3_indexOfSupplementary_31, dJ3_indexOfSupplementary_32, rfl⟩ rfl ?_
        refine x_icmp_ge C 69 36 dJ3_indexOfSupplementary_33 rfl rfl (fun hc16 => ?_) (fun hc16 => ?_)
        · replace hw := hw.1 hc16
          refine x_b C (pc' := 70) (L' := [(0, vA p0), (3, vI p3), (4, vI r5), (5, vI r8), (6, vI s14)]) (st' := [vI (-1)]) [(.iconst (-1), 1)] ⟨dJ3_indexOfSupplementary_69, rfl⟩ rfl ?_
          exact x_iret C dJ3_indexOfSupplementary_70 ⟨_, rfl, hw⟩
        · replace hw := hw.2 hc16
          refine x_b C (pc' := 39) (L' := [(0, vA p0), (3, vI p3), (4, vI r5), (5, vI r8), (6, vI s14)]) (st' := [vI s14, vA p0]) [(.aload_n 0, 1), (.iload 6, 2)] ⟨dJ3_indexOfSupplementary_36, dJ3_indexOfSupplementary_37, rfl⟩ rfl ?_
          obtain ⟨mc20, ms21, hle22, hw⟩ := hw
          refine x_cS C 42 (mc2 := mc20) (ms2 := ms21) [vA p0, vI s14] [] dJ3_indexOfSupplementary_39 rfl (ok_J3_getChar hG hw) hle22 q494 q495 q164 q496 hd_J3_getChar ⟨rfl, rfl, rfl⟩ (fun v9 h18 h19 hq9 eh19 => ?_)
          obtain ⟨r17, rfl, hw⟩ := hq9
          replace hw := hw h19 eh19
          refine x_b C (pc' := 44) (L' := [(0, vA p0), (3, vI p3), (4, vI r5), (5, vI r8), (6, vI s14)]) (st' := [vI r5, vI r17]) [(.iload 4, 2)] ⟨dJ3_indexOfSupplementary_42, rfl⟩ rfl ?_
          refine x_icmp_ne C 63 47 dJ3_indexOfSupplementary_44 rfl rfl (fun hc23 => ?_) (fun hc23 => ?_)
          · replace hw := hw.2 hc23
            refine x_b C (pc' := 66) (L' := [(6, vI (s14 + 1)), (0, vA p0), (3, vI p3), (4, vI r5), (5, vI r8)]) (st' := []) [(.iinc 6 1, 3)] ⟨dJ3_indexOfSupplementary_63, rfl⟩ rfl ?_
            refine x_goto C 28 dJ3_indexOfSupplementary_66 rfl ?_
            refine x_sub C (L' := [(0, vA p0), (3, vI p3), (4, vI r5), (5, vI r8), (6, vI (s14 + 1))]) [1, 2, 3, 4, 0] rfl ?_
            obtain ⟨m9, hm9, hw⟩ := hw
            exact ih14 m9 hm9 (s14 + 1) h19 hw
          · replace hw := hw.1 hc23
            refine x_b C (pc' := 52) (L' := [(0, vA p0), (3, vI p3), (4, vI r5), (5, vI r8), (6, vI s14)]) (st' := [vI (s14 + 1), vA p0]) [(.aload_n 0, 1), (.iload 6, 2), (.iconst 1, 1), (.iadd, 1)] ⟨dJ3_indexOfSupplementary_47, dJ3_indexOfSupplementary_48, dJ3_indexOfSupplementary_50, dJ3_indexOfSupplementary_51, rfl⟩ rfl ?_
            obtain ⟨mc27, ms28, hle29, hw⟩ := hw
            refine x_cS C 55 (mc2 := mc27) (ms2 := ms28) [vA p0, vI (s14 + 1)] [] dJ3_indexOfSupplementary_52 rfl (ok_J3_getChar hG hw) hle29 q494 q495 q164 q496 hd_J3_getChar ⟨rfl, rfl, rfl⟩ (fun v9 h25 h26 hq9 eh26 => ?_)
            obtain ⟨r24, rfl, hw⟩ := hq9
            replace hw := hw h26 eh26
            refine x_b C (pc' := 57) (L' := [(0, vA p0), (3, vI p3), (4, vI r5), (5, vI r8), (6, vI s14)]) (st' := [vI r8, vI r24]) [(.iload 5, 2)] ⟨dJ3_indexOfSupplementary_55, rfl⟩ rfl ?_
            refine x_icmp_ne C 63 60 dJ3_indexOfSupplementary_57 rfl rfl (fun hc30 => ?_) (fun hc30 => ?_)
            · replace hw := hw.2 hc30
              refine x_b C (pc' := 66) (L' := [(6, vI (s14 + 1)), (0, vA p0), (3, vI p3), (4, vI r5), (5, vI r8)]) (st' := []) [(.iinc 6 1, 3)] ⟨dJ3_indexOfSupplementary_63, rfl⟩ rfl ?_
              refine x_goto C 28 dJ3_indexOfSupplementary_66 rfl ?_
              refine x_sub C (L' := [(0, vA p0), (3, vI p3), (4, vI r5), (5, vI r8), (6, vI (s14 + 1))]) [1, 2, 3, 4, 0] rfl ?_
              obtain ⟨m9, hm9, hw⟩ := hw
              exact ih14 m9 hm9 (s14 + 1) h26 hw
            · replace hw := hw.1 hc30
              refine x_b C (pc' := 62) (L' := [(0, vA p0), (3, vI p3), (4, vI r5), (5, vI r8), (6, vI s14)]) (st' := [vI s14]) [(.iload 6, 2)] ⟨dJ3_indexOfSupplementary_60, rfl⟩ rfl ?_
              exact x_iret C dJ3_indexOfSupplementary_62 ⟨_, rfl, hw⟩
    exact key14 n14 p2 h13 hI14
def wp_J3_indexOf (p0 : Option Nat) (p1 : Int32) (p2 : Int32) (p3 : Int32) (h : AH) (Q : Int32 → AH → Prop) : Prop :=
  nn h p0 41 ∧
  (((if p2 < 0 then 0 else p2) < (if (jshr (nI (h.kd (adr p0)).2) 1) < p3 then (jshr (nI (h.kd (adr p0)).2) 1) else p3) →
  ((65536 ≤ p1 →
  cl h fun mc7 ms8 => wp_J3_indexOfSupplementary p0 p1 (if p2 < 0 then 0 else p2) (if (jshr (nI (h.kd (adr p0)).2) 1) < p3 then (jshr (nI (h.kd (adr p0)).2) 1) else p3) (h.srm mc7 ms8) fun r4 h5 => ∀ h6, h6 = h5.srm (h.rc - mc7) (h.rs - ms8) →
  Q r4 h6) ∧ (¬ 65536 ≤ p1 →
  cl h fun mc13 ms14 => wp_J3_indexOfChar p0 p1 (if p2 < 0 then 0 else p2) (if (jshr (nI (h.kd (adr p0)).2) 1) < p3 then (jshr (nI (h.kd (adr p0)).2) 1) else p3) (h.srm mc13 ms14) fun r10 h11 => ∀ h12, h12 = h11.srm (h.rc - mc13) (h.rs - ms14) →
  Q r10 h12))) ∧ (¬ (if p2 < 0 then 0 else p2) < (if (jshr (nI (h.kd (adr p0)).2) 1) < p3 then (jshr (nI (h.kd (adr p0)).2) 1) else p3) →
  Q (-1) h))
theorem hd_J3_indexOf : yJ3_indexOf.cls ≠ "java/lang/invoke/MethodHandle" ∧ yJ3_indexOf.cls ≠ "java/lang/invoke/VarHandle" ∧ (parseMethodDescriptor yJ3_indexOf.desc).map (fun d => d.parameters.length) = some 4 := by decide +kernel
theorem ok_J3_indexOf {l : Launch} {D : va_G} {s0 : S0} (hG : G0 D s0) {p0 : Option Nat} {p1 : Int32} {p2 : Int32} {p3 : Int32} {h : AH} {Q : Int32 → AH → Prop} (hw : wp_J3_indexOf p0 p1 p2 p3 h Q) : OKm l D s0 yJ3_indexOf cJ3_indexOf 4 (some .int) 5 153 [vA p0, vI p1, vI p2, vI p3] h (QI Q) := by
  refine x_metF hG (by decide +kernel) (own := RJ3) (mn := "indexOf") rfl rfl (L0 := [(0, vA p0), (1, vI p1), (2, vI p2), (3, vI p3)]) rfl rfl ?_
  intro K C
  unfold wp_J3_indexOf at hw
  refine x_b C (pc' := 2) (L' := [(0, vA p0), (1, vI p1), (2, vI p2), (3, vI p3)]) (st' := [vI 0, vI p2]) [(.iload_n 2, 1), (.iconst 0, 1)] ⟨dJ3_indexOf_0, dJ3_indexOf_1, rfl⟩ rfl ?_
  refine x_mmax C 5 [] dJ3_indexOf_2 rfl q549 q375 q166 q376 ⟨rfl, rfl⟩ ?_
  refine x_b C (pc' := 8) (L' := [(2, vI (if p2 < 0 then 0 else p2)), (0, vA p0), (1, vI p1), (3, vI p3)]) (st' := [vA p0, vI p3]) [(.istore_n 2, 1), (.iload_n 3, 1), (.aload_n 0, 1)] ⟨dJ3_indexOf_5, dJ3_indexOf_6, dJ3_indexOf_7, rfl⟩ rfl ?_
  have hn1 := hw.1
  replace hw := hw.2
  refine x_alen C 41 9 dJ3_indexOf_8 rfl rfl hn1 ?_
  refine x_b C (pc' := 11) (L' := [(2, vI (if p2 < 0 then 0 else p2)), (0, vA p0), (1, vI p1), (3, vI p3)]) (st' := [vI (jshr (nI (h.kd (adr p0)).2) 1), vI p3]) [(.iconst 1, 1), (.ishr, 1)] ⟨dJ3_indexOf_9, dJ3_indexOf_10, rfl⟩ rfl ?_
  refine x_mmin C 14 [] dJ3_indexOf_11 rfl q550 q393 q166 q394 ⟨rfl, rfl⟩ ?_
  refine x_b C (pc' := 17) (L' := [(3, vI (if (jshr (nI (h.kd (adr p0)).2) 1) < p3 then (jshr (nI (h.kd (adr p0)).2) 1) else p3)), (2, vI (if p2 < 0 then 0 else p2)), (0, vA p0), (1, vI p1)]) (st' := [vI (if (jshr (nI (h.kd (adr p0)).2) 1) < p3 then (jshr (nI (h.kd (adr p0)).2) 1) else p3), vI (if p2 < 0 then 0 else p2)]) [(.istore_n 3, 1), (.iload_n 2, 1), (.iload_n 3, 1)] ⟨dJ3_indexOf_14, dJ3_indexOf_15, dJ3_indexOf_16, rfl⟩ rfl ?_
  refine x_icmp_lt C 22 20 dJ3_indexOf_17 rfl rfl (fun hc2 => ?_) (fun hc2 => ?_)
  · replace hw := hw.1 hc2
    refine x_b C (pc' := 23) (L' := [(3, vI (if (jshr (nI (h.kd (adr p0)).2) 1) < p3 then (jshr (nI (h.kd (adr p0)).2) 1) else p3)), (2, vI (if p2 < 0 then 0 else p2)), (0, vA p0), (1, vI p1)]) (st' := [vI p1]) [(.iload_n 1, 1)] ⟨dJ3_indexOf_22, rfl⟩ rfl ?_
    refine x_ldc C (v := 65536) 25 dJ3_indexOf_23 rfl q551 ?_
    refine x_icmp_ge C 36 28 dJ3_indexOf_25 rfl rfl (fun hc3 => ?_) (fun hc3 => ?_)
    · replace hw := hw.1 hc3
      refine x_b C (pc' := 40) (L' := [(3, vI (if (jshr (nI (h.kd (adr p0)).2) 1) < p3 then (jshr (nI (h.kd (adr p0)).2) 1) else p3)), (2, vI (if p2 < 0 then 0 else p2)), (0, vA p0), (1, vI p1)]) (st' := [vI (if (jshr (nI (h.kd (adr p0)).2) 1) < p3 then (jshr (nI (h.kd (adr p0)).2) 1) else p3), vI (if p2 < 0 then 0 else p2), vI p1, vA p0]) [(.aload_n 0, 1), (.iload_n 1, 1), (.iload_n 2, 1), (.iload_n 3, 1)] ⟨dJ3_indexOf_36, dJ3_indexOf_37, dJ3_indexOf_38, dJ3_indexOf_39, rfl⟩ rfl ?_
      obtain ⟨mc7, ms8, hle9, hw⟩ := hw
      refine x_cS C 43 (mc2 := mc7) (ms2 := ms8) [vA p0, vI p1, vI (if p2 < 0 then 0 else p2), vI (if (jshr (nI (h.kd (adr p0)).2) 1) < p3 then (jshr (nI (h.kd (adr p0)).2) 1) else p3)] [] dJ3_indexOf_40 rfl (ok_J3_indexOfSupplementary hG hw) hle9 q567 q568 q164 q569 hd_J3_indexOfSupplementary ⟨rfl, rfl, rfl⟩ (fun v9 h5 h6 hq9 eh6 => ?_)
      obtain ⟨r4, rfl, hw⟩ := hq9
      replace hw := hw h6 eh6
      exact x_iret C dJ3_indexOf_43 ⟨_, rfl, hw⟩
    · replace hw := hw.2 hc3
      refine x_b C (pc' := 32) (L' := [(3, vI (if (jshr (nI (h.kd (adr p0)).2) 1) < p3 then (jshr (nI (h.kd (adr p0)).2) 1) else p3)), (2, vI (if p2 < 0 then 0 else p2)), (0, vA p0), (1, vI p1)]) (st' := [vI (if (jshr (nI (h.kd (adr p0)).2) 1) < p3 then (jshr (nI (h.kd (adr p0)).2) 1) else p3), vI (if p2 < 0 then 0 else p2), vI p1, vA p0]) [(.aload_n 0, 1), (.iload_n 1, 1), (.iload_n 2, 1), (.iload_n 3, 1)] ⟨dJ3_indexOf_28, dJ3_indexOf_29, dJ3_indexOf_30, dJ3_indexOf_31, rfl⟩ rfl ?_
      obtain ⟨mc13, ms14, hle15, hw⟩ := hw
      refine x_cS C 35 (mc2 := mc13) (ms2 := ms14) [vA p0, vI p1, vI (if p2 < 0 then 0 else p2), vI (if (jshr (nI (h.kd (adr p0)).2) 1) < p3 then (jshr (nI (h.kd (adr p0)).2) 1) else p3)] [] dJ3_indexOf_32 rfl (ok_J3_indexOfChar hG hw) hle15 q552 q553 q164 q554 hd_J3_indexOfChar ⟨rfl, rfl, rfl⟩ (fun v9 h11 h12 hq9 eh12 => ?_)
      obtain ⟨r10, rfl, hw⟩ := hq9
      replace hw := hw h12 eh12
      exact x_iret C dJ3_indexOf_35 ⟨_, rfl, hw⟩
  · replace hw := hw.2 hc2
    refine x_b C (pc' := 21) (L' := [(3, vI (if (jshr (nI (h.kd (adr p0)).2) 1) < p3 then (jshr (nI (h.kd (adr p0)).2) 1) else p3)), (2, vI (if p2 < 0 then 0 else p2)), (0, vA p0), (1, vI p1)]) (st' := [vI (-1)]) [(.iconst (-1), 1)] ⟨dJ3_indexOf_20, rfl⟩ rfl ?_
    exact x_iret C dJ3_indexOf_21 ⟨_, rfl, hw⟩
def wp_J7_canEncode_2 (p0 : Int32) (h : AH) (Q : Int32 → AH → Prop) : Prop :=
  ∀ m1 : Int32, m1 = (if p0 < 0 then 0 else (if 255 < p0 then 0 else 1)) →
  bz m1 ∧ Q m1 h
theorem hd_J7_canEncode_2 : yJ7_canEncode_2.cls ≠ "java/lang/invoke/MethodHandle" ∧ yJ7_canEncode_2.cls ≠ "java/lang/invoke/VarHandle" ∧ (parseMethodDescriptor yJ7_canEncode_2.desc).map (fun d => d.parameters.length) = some 1 := by decide +kernel
theorem ok_J7_canEncode_2 {l : Launch} {D : va_G} {s0 : S0} (hG : G0 D s0) {p0 : Int32} {h : AH} {Q : Int32 → AH → Prop} (hw : wp_J7_canEncode_2 p0 h Q) : OKm l D s0 yJ7_canEncode_2 cJ7_canEncode_2 1 (some .boolean) 0 0 [vI p0] h (QI Q) := by
  refine x_metF hG (by decide +kernel) (own := RJ7) (mn := "canEncode") rfl rfl (L0 := [(0, vI p0)]) rfl rfl ?_
  intro K C
  unfold wp_J7_canEncode_2 at hw
  refine x_b C (pc' := 1) (L' := [(0, vI p0)]) (st' := [vI p0]) [(.iload_n 0, 1)] ⟨dJ7_canEncode_2_0, rfl⟩ rfl ?_
  have kj2 : ∀ (m1 : Int32), m1 = (if p0 < 0 then 0 else (if 255 < p0 then 0 else 1)) → K 16 [] [vI m1] h := by
    intro m1 em1
    replace hw := hw m1 em1
    exact x_zret C dJ7_canEncode_2_16 (bz_n hw.1) ⟨_, rfl, hw.2⟩
  refine x_if_lt C 15 4 dJ7_canEncode_2_1 rfl rfl (fun hc3 => ?_) (fun hc3 => ?_)
  · refine x_b C (pc' := 16) (L' := [(0, vI p0)]) (st' := [vI 0]) [(.iconst 0, 1)] ⟨dJ7_canEncode_2_15, rfl⟩ rfl ?_
    refine x_sub C (L' := []) [] rfl ?_
    exact kj2 _ ((if_pos hc3).symm)
  · refine x_b C (pc' := 8) (L' := [(0, vI p0)]) (st' := [vI 255, vI p0]) [(.iload_n 0, 1), (.sipush 255, 3)] ⟨dJ7_canEncode_2_4, dJ7_canEncode_2_5, rfl⟩ rfl ?_
    refine x_icmp_gt C 15 11 dJ7_canEncode_2_8 rfl rfl (fun hc4 => ?_) (fun hc4 => ?_)
    · refine x_b C (pc' := 16) (L' := [(0, vI p0)]) (st' := [vI 0]) [(.iconst 0, 1)] ⟨dJ7_canEncode_2_15, rfl⟩ rfl ?_
      refine x_sub C (L' := []) [] rfl ?_
      exact kj2 _ (((if_pos hc4).symm).trans ((if_neg hc3).symm))
    · refine x_b C (pc' := 12) (L' := [(0, vI p0)]) (st' := [vI 1]) [(.iconst 1, 1)] ⟨dJ7_canEncode_2_11, rfl⟩ rfl ?_
      refine x_goto C 16 dJ7_canEncode_2_12 rfl ?_
      refine x_sub C (L' := []) [] rfl ?_
      exact kj2 _ (((if_neg hc4).symm).trans ((if_neg hc3).symm))
def wp_J7_indexOfChar (p0 : Option Nat) (p1 : Int32) (p2 : Int32) (p3 : Int32) (h : AH) (Q : Int32 → AH → Prop) : Prop :=
  xlp (σ := Int32) (fun s1 T2 k1 =>
  ((p3 ≤ s1 →
  Q (-1) T2) ∧ (¬ p3 ≤ s1 →
  ix T2 p0 41 s1 ∧
  (((T2.ai (adr p0) (ni s1)) = (Int8.toInt32 (Int32.toInt8 p1)) →
  Q s1 T2) ∧ (¬ (T2.ai (adr p0) (ni s1)) = (Int8.toInt32 (Int32.toInt8 p1)) →
  k1 (s1 + 1) T2))))) p2 h
theorem hd_J7_indexOfChar : yJ7_indexOfChar.cls ≠ "java/lang/invoke/MethodHandle" ∧ yJ7_indexOfChar.cls ≠ "java/lang/invoke/VarHandle" ∧ (parseMethodDescriptor yJ7_indexOfChar.desc).map (fun d => d.parameters.length) = some 4 := by decide +kernel
theorem ok_J7_indexOfChar {l : Launch} {D : va_G} {s0 : S0} (hG : G0 D s0) {p0 : Option Nat} {p1 : Int32} {p2 : Int32} {p3 : Int32} {h : AH} {Q : Int32 → AH → Prop} (hw : wp_J7_indexOfChar p0 p1 p2 p3 h Q) : OKm l D s0 yJ7_indexOfChar cJ7_indexOfChar 6 (some .int) 0 0 [vA p0, vI p1, vI p2, vI p3] h (QI Q) := by
  refine x_metF hG (by decide +kernel) (own := RJ7) (mn := "indexOfChar") rfl rfl (L0 := [(0, vA p0), (1, vI p1), (2, vI p2), (3, vI p3)]) rfl rfl ?_
  intro K C
  unfold wp_J7_indexOfChar at hw
  refine x_b C (pc' := 7) (L' := [(5, vI p2), (4, vI (Int8.toInt32 (Int32.toInt8 p1))), (0, vA p0), (1, vI p1), (2, vI p2), (3, vI p3)]) (st' := []) [(.iload_n 1, 1), (.i2b, 1), (.istore 4, 2), (.iload_n 2, 1), (.istore 5, 2)] ⟨dJ7_indexOfChar_0, dJ7_indexOfChar_1, dJ7_indexOfChar_2, dJ7_indexOfChar_4, dJ7_indexOfChar_5, rfl⟩ rfl ?_
  obtain ⟨I1, ⟨n1, hI1⟩, hB1⟩ := xlp.out hw
  refine x_sub C (L' := [(0, vA p0), (3, vI p3), (4, vI (Int8.toInt32 (Int32.toInt8 p1))), (5, vI p2)]) [2, 5, 1, 0] rfl ?_
  have key1 : ∀ (n : Nat) (s1 : Int32) (T2 : AH), I1 n s1 T2 → K 7 [(0, vA p0), (3, vI p3), (4, vI (Int8.toInt32 (Int32.toInt8 p1))), (5, vI s1)] [] T2 := by
    intro n
    induction n using Nat.strongRecOn with
    | ind n ih1 =>
      intro s1 T2 hI
      replace hw := hB1 n s1 T2 hI
      refine x_b C (pc' := 10) (L' := [(0, vA p0), (3, vI p3), (4, vI (Int8.toInt32 (Int32.toInt8 p1))), (5, vI s1)]) (st' := [vI p3, vI s1]) [(.iload 5, 2), (.iload_n 3, 1)] ⟨dJ7_indexOfChar_7, dJ7_indexOfChar_9, rfl⟩ rfl ?_
      refine x_icmp_ge C 31 13 dJ7_indexOfChar_10 rfl rfl (fun hc3 => ?_) (fun hc3 => ?_)
      · replace hw := hw.1 hc3
        refine x_b C (pc' := 32) (L' := [(0, vA p0), (3, vI p3), (4, vI (Int8.toInt32 (Int32.toInt8 p1))), (5, vI s1)]) (st' := [vI (-1)]) [(.iconst (-1), 1)] ⟨dJ7_indexOfChar_31, rfl⟩ rfl ?_
        exact x_iret C dJ7_indexOfChar_32 ⟨_, rfl, hw⟩
      · replace hw := hw.2 hc3
        refine x_b C (pc' := 16) (L' := [(0, vA p0), (3, vI p3), (4, vI (Int8.toInt32 (Int32.toInt8 p1))), (5, vI s1)]) (st' := [vI s1, vA p0]) [(.aload_n 0, 1), (.iload 5, 2)] ⟨dJ7_indexOfChar_13, dJ7_indexOfChar_14, rfl⟩ rfl ?_
        refine x_bald C 17 dJ7_indexOfChar_16 rfl hw.1 ?_
        replace hw := hw.2
        refine x_b C (pc' := 19) (L' := [(0, vA p0), (3, vI p3), (4, vI (Int8.toInt32 (Int32.toInt8 p1))), (5, vI s1)]) (st' := [vI (Int8.toInt32 (Int32.toInt8 p1)), vI (T2.ai (adr p0) (ni s1))]) [(.iload 4, 2)] ⟨dJ7_indexOfChar_17, rfl⟩ rfl ?_
        refine x_icmp_ne C 25 22 dJ7_indexOfChar_19 rfl rfl (fun hc4 => ?_) (fun hc4 => ?_)
        · replace hw := hw.2 hc4
          refine x_b C (pc' := 28) (L' := [(5, vI (s1 + 1)), (0, vA p0), (3, vI p3), (4, vI (Int8.toInt32 (Int32.toInt8 p1)))]) (st' := []) [(.iinc 5 1, 3)] ⟨dJ7_indexOfChar_25, rfl⟩ rfl ?_
          refine x_goto C 7 dJ7_indexOfChar_28 rfl ?_
          refine x_sub C (L' := [(0, vA p0), (3, vI p3), (4, vI (Int8.toInt32 (Int32.toInt8 p1))), (5, vI (s1 + 1))]) [1, 2, 3, 0] rfl ?_
          obtain ⟨m9, hm9, hw⟩ := hw
          exact ih1 m9 hm9 (s1 + 1) T2 hw
        · replace hw := hw.1 hc4
          refine x_b C (pc' := 24) (L' := [(0, vA p0), (3, vI p3), (4, vI (Int8.toInt32 (Int32.toInt8 p1))), (5, vI s1)]) (st' := [vI s1]) [(.iload 5, 2)] ⟨dJ7_indexOfChar_22, rfl⟩ rfl ?_
          exact x_iret C dJ7_indexOfChar_24 ⟨_, rfl, hw⟩
  exact key1 n1 p2 h hI1
def wp_J7_indexOf (p0 : Option Nat) (p1 : Int32) (p2 : Int32) (p3 : Int32) (h : AH) (Q : Int32 → AH → Prop) : Prop :=
  wp_J7_canEncode_2 p1 (h.srm 0 0) fun r1 h2 => ∀ h3, h3 = h2.srm h.rc h.rs →
  ((r1 = 0 →
  Q (-1) h3) ∧ (¬ r1 = 0 →
  nn h3 p0 41 ∧
  (((if p2 < 0 then 0 else p2) < (if (nI (h3.kd (adr p0)).2) < p3 then (nI (h3.kd (adr p0)).2) else p3) →
  wp_J7_indexOfChar p0 p1 (if p2 < 0 then 0 else p2) (if (nI (h3.kd (adr p0)).2) < p3 then (nI (h3.kd (adr p0)).2) else p3) (h3.srm 0 0) fun r7 h8 => ∀ h9, h9 = h8.srm h3.rc h3.rs →
  Q r7 h9) ∧ (¬ (if p2 < 0 then 0 else p2) < (if (nI (h3.kd (adr p0)).2) < p3 then (nI (h3.kd (adr p0)).2) else p3) →
  Q (-1) h3))))
theorem hd_J7_indexOf : yJ7_indexOf.cls ≠ "java/lang/invoke/MethodHandle" ∧ yJ7_indexOf.cls ≠ "java/lang/invoke/VarHandle" ∧ (parseMethodDescriptor yJ7_indexOf.desc).map (fun d => d.parameters.length) = some 4 := by decide +kernel
theorem ok_J7_indexOf {l : Launch} {D : va_G} {s0 : S0} (hG : G0 D s0) {p0 : Option Nat} {p1 : Int32} {p2 : Int32} {p3 : Int32} {h : AH} {Q : Int32 → AH → Prop} (hw : wp_J7_indexOf p0 p1 p2 p3 h Q) : OKm l D s0 yJ7_indexOf cJ7_indexOf 4 (some .int) 1 60 [vA p0, vI p1, vI p2, vI p3] h (QI Q) := by
  refine x_metF hG (by decide +kernel) (own := RJ7) (mn := "indexOf") rfl rfl (L0 := [(0, vA p0), (1, vI p1), (2, vI p2), (3, vI p3)]) rfl rfl ?_
  intro K C
  unfold wp_J7_indexOf at hw
  refine x_b C (pc' := 1) (L' := [(0, vA p0), (1, vI p1), (2, vI p2), (3, vI p3)]) (st' := [vI p1]) [(.iload_n 1, 1)] ⟨dJ7_indexOf_0, rfl⟩ rfl ?_
  refine x_cS C 4 (mc2 := 0) (ms2 := 0) [vI p1] [] dJ7_indexOf_1 rfl (ok_J7_canEncode_2 hG hw) ⟨Nat.zero_le _, Nat.zero_le _⟩ q538 q539 q169 q540 hd_J7_canEncode_2 ⟨rfl, rfl, rfl⟩ (fun v9 h2 h3 hq9 eh3 => ?_)
  obtain ⟨r1, rfl, hw⟩ := hq9
  replace hw := hw h3 eh3
  refine x_if_ne C 9 7 dJ7_indexOf_4 rfl rfl (fun hc4 => ?_) (fun hc4 => ?_)
  · replace hw := hw.2 hc4
    refine x_b C (pc' := 11) (L' := [(0, vA p0), (1, vI p1), (2, vI p2), (3, vI p3)]) (st' := [vI 0, vI p2]) [(.iload_n 2, 1), (.iconst 0, 1)] ⟨dJ7_indexOf_9, dJ7_indexOf_10, rfl⟩ rfl ?_
    refine x_mmax C 14 [] dJ7_indexOf_11 rfl q541 q375 q166 q376 ⟨rfl, rfl⟩ ?_
    refine x_b C (pc' := 17) (L' := [(2, vI (if p2 < 0 then 0 else p2)), (0, vA p0), (1, vI p1), (3, vI p3)]) (st' := [vA p0, vI p3]) [(.istore_n 2, 1), (.iload_n 3, 1), (.aload_n 0, 1)] ⟨dJ7_indexOf_14, dJ7_indexOf_15, dJ7_indexOf_16, rfl⟩ rfl ?_
    have hn5 := hw.1
    replace hw := hw.2
    refine x_alen C 41 18 dJ7_indexOf_17 rfl rfl hn5 ?_
    refine x_mmin C 21 [] dJ7_indexOf_18 rfl q542 q393 q166 q394 ⟨rfl, rfl⟩ ?_
    refine x_b C (pc' := 24) (L' := [(3, vI (if (nI (h3.kd (adr p0)).2) < p3 then (nI (h3.kd (adr p0)).2) else p3)), (2, vI (if p2 < 0 then 0 else p2)), (0, vA p0), (1, vI p1)]) (st' := [vI (if (nI (h3.kd (adr p0)).2) < p3 then (nI (h3.kd (adr p0)).2) else p3), vI (if p2 < 0 then 0 else p2)]) [(.istore_n 3, 1), (.iload_n 2, 1), (.iload_n 3, 1)] ⟨dJ7_indexOf_21, dJ7_indexOf_22, dJ7_indexOf_23, rfl⟩ rfl ?_
    refine x_icmp_lt C 29 27 dJ7_indexOf_24 rfl rfl (fun hc6 => ?_) (fun hc6 => ?_)
    · replace hw := hw.1 hc6
      refine x_b C (pc' := 33) (L' := [(3, vI (if (nI (h3.kd (adr p0)).2) < p3 then (nI (h3.kd (adr p0)).2) else p3)), (2, vI (if p2 < 0 then 0 else p2)), (0, vA p0), (1, vI p1)]) (st' := [vI (if (nI (h3.kd (adr p0)).2) < p3 then (nI (h3.kd (adr p0)).2) else p3), vI (if p2 < 0 then 0 else p2), vI p1, vA p0]) [(.aload_n 0, 1), (.iload_n 1, 1), (.iload_n 2, 1), (.iload_n 3, 1)] ⟨dJ7_indexOf_29, dJ7_indexOf_30, dJ7_indexOf_31, dJ7_indexOf_32, rfl⟩ rfl ?_
      refine x_cS C 36 (mc2 := 0) (ms2 := 0) [vA p0, vI p1, vI (if p2 < 0 then 0 else p2), vI (if (nI (h3.kd (adr p0)).2) < p3 then (nI (h3.kd (adr p0)).2) else p3)] [] dJ7_indexOf_33 rfl (ok_J7_indexOfChar hG hw) ⟨Nat.zero_le _, Nat.zero_le _⟩ q543 q544 q169 q545 hd_J7_indexOfChar ⟨rfl, rfl, rfl⟩ (fun v9 h8 h9 hq9 eh9 => ?_)
      obtain ⟨r7, rfl, hw⟩ := hq9
      replace hw := hw h9 eh9
      exact x_iret C dJ7_indexOf_36 ⟨_, rfl, hw⟩
    · replace hw := hw.2 hc6
      refine x_b C (pc' := 28) (L' := [(3, vI (if (nI (h3.kd (adr p0)).2) < p3 then (nI (h3.kd (adr p0)).2) else p3)), (2, vI (if p2 < 0 then 0 else p2)), (0, vA p0), (1, vI p1)]) (st' := [vI (-1)]) [(.iconst (-1), 1)] ⟨dJ7_indexOf_27, rfl⟩ rfl ?_
      exact x_iret C dJ7_indexOf_28 ⟨_, rfl, hw⟩
  · replace hw := hw.1 hc4
    refine x_b C (pc' := 8) (L' := [(0, vA p0), (1, vI p1), (2, vI p2), (3, vI p3)]) (st' := [vI (-1)]) [(.iconst (-1), 1)] ⟨dJ7_indexOf_7, rfl⟩ rfl ?_
    exact x_iret C dJ7_indexOf_8 ⟨_, rfl, hw⟩
def wp_J2_indexOf_2 (o : Nat) (p0 : Int32) (p1 : Int32) (h : AH) (Q : Int32 → AH → Prop) : Prop :=
  nn h (some o) 22 ∧
  wp_J2_isLatin1 o (h.srm 0 0) fun r2 h3 => ∀ h4, h4 = h3.srm h.rc h.rs →
  ((r2 = 0 →
  nn h4 (some o) 22 ∧
  wp_J2_length o (h4.srm 0 0) fun r7 h8 => ∀ h9, h9 = h8.srm h4.rc h4.rs →
  cl h9 fun mc13 ms14 => wp_J3_indexOf (h4.fr 2200 o) p0 p1 r7 (h9.srm mc13 ms14) fun r10 h11 => ∀ h12, h12 = h11.srm (h9.rc - mc13) (h9.rs - ms14) →
  Q r10 h12) ∧ (¬ r2 = 0 →
  nn h4 (some o) 22 ∧
  wp_J2_length o (h4.srm 0 0) fun r17 h18 => ∀ h19, h19 = h18.srm h4.rc h4.rs →
  wp_J7_indexOf (h4.fr 2200 o) p0 p1 r17 (h19.srm 0 0) fun r20 h21 => ∀ h22, h22 = h21.srm h19.rc h19.rs →
  Q r20 h22))
theorem hd_J2_indexOf_2 : yJ2_indexOf_2.cls = RJ2 ∧ yJ2_indexOf_2.cls ≠ "java/lang/invoke/MethodHandle" ∧ yJ2_indexOf_2.cls ≠ "java/lang/invoke/VarHandle" ∧ (parseMethodDescriptor yJ2_indexOf_2.desc).map (fun d => d.parameters.length) = some 2 := by decide +kernel
theorem ok_J2_indexOf_2 {l : Launch} {D : va_G} {s0 : S0} (hG : G0 D s0) {o : Nat} {p0 : Int32} {p1 : Int32} {h : AH} {Q : Int32 → AH → Prop} (hw : wp_J2_indexOf_2 o p0 p1 h Q) : OKm l D s0 yJ2_indexOf_2 cJ2_indexOf_2 3 (some .int) 6 176 [vA (some o), vI p0, vI p1] h (QI Q) := by
  refine x_metF hG (by decide +kernel) (own := RJ2) (mn := "indexOf") rfl rfl (L0 := [(0, vA (some o)), (1, vI p0), (2, vI p1)]) rfl rfl ?_
  intro K C
  unfold wp_J2_indexOf_2 at hw
  refine x_b C (pc' := 1) (L' := [(0, vA (some o)), (1, vI p0), (2, vI p1)]) (st' := [vA (some o)]) [(.aload_n 0, 1)] ⟨dJ2_indexOf_2_0, rfl⟩ rfl ?_
  have hn1 := hw.1
  replace hw := hw.2
  refine x_cV C 22 4 (mc2 := 0) (ms2 := 0) [] [] dJ2_indexOf_2_1 rfl (ok_J2_isLatin1 hG hw) ⟨Nat.zero_le _, Nat.zero_le _⟩ q523 q524 q525 q163 q526 rfl hd_J2_isLatin1 ⟨rfl, rfl, rfl⟩ hn1 (fun v9 h3 h4 hq9 eh4 => ?_)
  obtain ⟨r2, rfl, hw⟩ := hq9
  replace hw := hw h4 eh4
  refine x_if_eq C 23 7 dJ2_indexOf_2_4 rfl rfl (fun hc5 => ?_) (fun hc5 => ?_)
  · replace hw := hw.1 hc5
    refine x_b C (pc' := 24) (L' := [(0, vA (some o)), (1, vI p0), (2, vI p1)]) (st' := [vA (some o)]) [(.aload_n 0, 1)] ⟨dJ2_indexOf_2_23, rfl⟩ rfl ?_
    have hn6 := hw.1
    replace hw := hw.2
    refine x_get C 22 0 (pc' := 27) (v := vA (h4.fr 2200 o)) dJ2_indexOf_2_24 rfl rfl rfl q501 rfl hn6 ?_
    refine x_b C (pc' := 30) (L' := [(0, vA (some o)), (1, vI p0), (2, vI p1)]) (st' := [vA (some o), vI p1, vI p0, vA (h4.fr 2200 o)]) [(.iload_n 1, 1), (.iload_n 2, 1), (.aload_n 0, 1)] ⟨dJ2_indexOf_2_27, dJ2_indexOf_2_28, dJ2_indexOf_2_29, rfl⟩ rfl ?_
    refine x_cV C 22 33 (mc2 := 0) (ms2 := 0) [] [vI p1, vI p0, vA (h4.fr 2200 o)] dJ2_indexOf_2_30 rfl (ok_J2_length hG hw) ⟨Nat.zero_le _, Nat.zero_le _⟩ q527 q528 q529 q163 q530 rfl hd_J2_length ⟨rfl, rfl, rfl⟩ hn6 (fun v9 h8 h9 hq9 eh9 => ?_)
    obtain ⟨r7, rfl, hw⟩ := hq9
    replace hw := hw h9 eh9
    obtain ⟨mc13, ms14, hle15, hw⟩ := hw
    refine x_cS C 36 (mc2 := mc13) (ms2 := ms14) [vA (h4.fr 2200 o), vI p0, vI p1, vI r7] [] dJ2_indexOf_2_33 rfl (ok_J3_indexOf hG hw) hle15 q546 q547 q164 q548 hd_J3_indexOf ⟨rfl, rfl, rfl⟩ (fun v9 h11 h12 hq9 eh12 => ?_)
    obtain ⟨r10, rfl, hw⟩ := hq9
    replace hw := hw h12 eh12
    exact x_iret C dJ2_indexOf_2_36 ⟨_, rfl, hw⟩
  · replace hw := hw.2 hc5
    refine x_b C (pc' := 8) (L' := [(0, vA (some o)), (1, vI p0), (2, vI p1)]) (st' := [vA (some o)]) [(.aload_n 0, 1)] ⟨dJ2_indexOf_2_7, rfl⟩ rfl ?_
    have hn16 := hw.1
    replace hw := hw.2
    refine x_get C 22 0 (pc' := 11) (v := vA (h4.fr 2200 o)) dJ2_indexOf_2_8 rfl rfl rfl q501 rfl hn16 ?_
    refine x_b C (pc' := 14) (L' := [(0, vA (some o)), (1, vI p0), (2, vI p1)]) (st' := [vA (some o), vI p1, vI p0, vA (h4.fr 2200 o)]) [(.iload_n 1, 1), (.iload_n 2, 1), (.aload_n 0, 1)] ⟨dJ2_indexOf_2_11, dJ2_indexOf_2_12, dJ2_indexOf_2_13, rfl⟩ rfl ?_
    refine x_cV C 22 17 (mc2 := 0) (ms2 := 0) [] [vI p1, vI p0, vA (h4.fr 2200 o)] dJ2_indexOf_2_14 rfl (ok_J2_length hG hw) ⟨Nat.zero_le _, Nat.zero_le _⟩ q527 q528 q529 q163 q530 rfl hd_J2_length ⟨rfl, rfl, rfl⟩ hn16 (fun v9 h18 h19 hq9 eh19 => ?_)
    obtain ⟨r17, rfl, hw⟩ := hq9
    replace hw := hw h19 eh19
    refine x_cS C 20 (mc2 := 0) (ms2 := 0) [vA (h4.fr 2200 o), vI p0, vI p1, vI r17] [] dJ2_indexOf_2_17 rfl (ok_J7_indexOf hG hw) ⟨Nat.zero_le _, Nat.zero_le _⟩ q535 q536 q169 q537 hd_J7_indexOf ⟨rfl, rfl, rfl⟩ (fun v9 h21 h22 hq9 eh22 => ?_)
    obtain ⟨r20, rfl, hw⟩ := hq9
    replace hw := hw h22 eh22
    refine x_goto C 36 dJ2_indexOf_2_20 rfl ?_
    exact x_iret C dJ2_indexOf_2_36 ⟨_, rfl, hw⟩
def wp_J2_indexOf (o : Nat) (p0 : Int32) (h : AH) (Q : Int32 → AH → Prop) : Prop :=
  nn h (some o) 22 ∧
  cl h fun mc5 ms6 => wp_J2_indexOf_2 o p0 0 (h.srm mc5 ms6) fun r2 h3 => ∀ h4, h4 = h3.srm (h.rc - mc5) (h.rs - ms6) →
  Q r2 h4
theorem hd_J2_indexOf : yJ2_indexOf.cls = RJ2 ∧ yJ2_indexOf.cls ≠ "java/lang/invoke/MethodHandle" ∧ yJ2_indexOf.cls ≠ "java/lang/invoke/VarHandle" ∧ (parseMethodDescriptor yJ2_indexOf.desc).map (fun d => d.parameters.length) = some 1 := by decide +kernel
theorem ok_J2_indexOf {l : Launch} {D : va_G} {s0 : S0} (hG : G0 D s0) {o : Nat} {p0 : Int32} {h : AH} {Q : Int32 → AH → Prop} (hw : wp_J2_indexOf o p0 h Q) : OKm l D s0 yJ2_indexOf cJ2_indexOf 2 (some .int) 7 198 [vA (some o), vI p0] h (QI Q) := by
  refine x_metF hG (by decide +kernel) (own := RJ2) (mn := "indexOf") rfl rfl (L0 := [(0, vA (some o)), (1, vI p0)]) rfl rfl ?_
  intro K C
  unfold wp_J2_indexOf at hw
  refine x_b C (pc' := 3) (L' := [(0, vA (some o)), (1, vI p0)]) (st' := [vI 0, vI p0, vA (some o)]) [(.aload_n 0, 1), (.iload_n 1, 1), (.iconst 0, 1)] ⟨dJ2_indexOf_0, dJ2_indexOf_1, dJ2_indexOf_2, rfl⟩ rfl ?_
  have hn1 := hw.1
  replace hw := hw.2
  obtain ⟨mc5, ms6, hle7, hw⟩ := hw
  refine x_cV C 22 6 (mc2 := mc5) (ms2 := ms6) [vI p0, vI 0] [] dJ2_indexOf_3 rfl (ok_J2_indexOf_2 hG hw) hle7 q519 q520 q521 q163 q522 rfl hd_J2_indexOf_2 ⟨rfl, rfl, rfl⟩ hn1 (fun v9 h3 h4 hq9 eh4 => ?_)
  obtain ⟨r2, rfl, hw⟩ := hq9
  replace hw := hw h4 eh4
  exact x_iret C dJ2_indexOf_6 ⟨_, rfl, hw⟩
def wp_J6_fill (p0 : Option Nat) (p1 : Int32) (h : AH) (Q : AH → Prop) : Prop :=
  nn h p0 40 ∧
  xlp (σ := Int32) (fun s2 T3 k2 =>
  (((nI (h.kd (adr p0)).2) ≤ s2 →
  Q T3) ∧ (¬ (nI (h.kd (adr p0)).2) ≤ s2 →
  ix T3 p0 40 s2 ∧
  ∀ h5, h5 = T3.sai (adr p0) (ni s2) p1 →
  k2 (s2 + 1) h5))) 0 h
theorem hd_J6_fill : yJ6_fill.cls ≠ "java/lang/invoke/MethodHandle" ∧ yJ6_fill.cls ≠ "java/lang/invoke/VarHandle" ∧ (parseMethodDescriptor yJ6_fill.desc).map (fun d => d.parameters.length) = some 2 := by decide +kernel
theorem ok_J6_fill {l : Launch} {D : va_G} {s0 : S0} (hG : G0 D s0) {p0 : Option Nat} {p1 : Int32} {h : AH} {Q : AH → Prop} (hw : wp_J6_fill p0 p1 h Q) : OKm l D s0 yJ6_fill cJ6_fill 4 none 0 0 [vA p0, vI p1] h (QV Q) := by
  refine x_metF hG (by decide +kernel) (own := RJ6) (mn := "fill") rfl rfl (L0 := [(0, vA p0), (1, vI p1)]) rfl rfl ?_
  intro K C
  unfold wp_J6_fill at hw
  refine x_b C (pc' := 3) (L' := [(2, vI 0), (0, vA p0), (1, vI p1)]) (st' := [vA p0]) [(.iconst 0, 1), (.istore_n 2, 1), (.aload_n 0, 1)] ⟨dJ6_fill_0, dJ6_fill_1, dJ6_fill_2, rfl⟩ rfl ?_
  have hn1 := hw.1
  replace hw := hw.2
  refine x_alen C 40 4 dJ6_fill_3 rfl rfl hn1 ?_
  refine x_b C (pc' := 5) (L' := [(3, vI (nI (h.kd (adr p0)).2)), (2, vI 0), (0, vA p0), (1, vI p1)]) (st' := []) [(.istore_n 3, 1)] ⟨dJ6_fill_4, rfl⟩ rfl ?_
  obtain ⟨I2, ⟨n2, hI2⟩, hB2⟩ := xlp.out hw
  refine x_sub C (L' := [(0, vA p0), (1, vI p1), (2, vI 0), (3, vI (nI (h.kd (adr p0)).2))]) [2, 3, 1, 0] rfl ?_
  have key2 : ∀ (n : Nat) (s2 : Int32) (T3 : AH), I2 n s2 T3 → K 5 [(0, vA p0), (1, vI p1), (2, vI s2), (3, vI (nI (h.kd (adr p0)).2))] [] T3 := by
    intro n
    induction n using Nat.strongRecOn with
    | ind n ih2 =>
      intro s2 T3 hI
      replace hw := hB2 n s2 T3 hI
      refine x_b C (pc' := 7) (L' := [(0, vA p0), (1, vI p1), (2, vI s2), (3, vI (nI (h.kd (adr p0)).2))]) (st' := [vI (nI (h.kd (adr p0)).2), vI s2]) [(.iload_n 2, 1), (.iload_n 3, 1)] ⟨dJ6_fill_5, dJ6_fill_6, rfl⟩ rfl ?_
      refine x_icmp_ge C 20 10 dJ6_fill_7 rfl rfl (fun hc4 => ?_) (fun hc4 => ?_)
      · replace hw := hw.1 hc4
        exact x_vret C dJ6_fill_20 ⟨rfl, hw⟩
      · replace hw := hw.2 hc4
        refine x_b C (pc' := 13) (L' := [(0, vA p0), (1, vI p1), (2, vI s2), (3, vI (nI (h.kd (adr p0)).2))]) (st' := [vI p1, vI s2, vA p0]) [(.aload_n 0, 1), (.iload_n 2, 1), (.iload_n 1, 1)] ⟨dJ6_fill_10, dJ6_fill_11, dJ6_fill_12, rfl⟩ rfl ?_
        refine y_iast C 14 dJ6_fill_13 rfl hw.1 (Or.inl rfl) (fun h5 eh5 => ?_)
        replace hw := hw.2 h5 eh5
        refine x_b C (pc' := 17) (L' := [(2, vI (s2 + 1)), (0, vA p0), (1, vI p1), (3, vI (nI (h.kd (adr p0)).2))]) (st' := []) [(.iinc 2 1, 3)] ⟨dJ6_fill_14, rfl⟩ rfl ?_
        refine x_goto C 5 dJ6_fill_17 rfl ?_
        refine x_sub C (L' := [(0, vA p0), (1, vI p1), (2, vI (s2 + 1)), (3, vI (nI (h.kd (adr p0)).2))]) [1, 2, 0, 3] rfl ?_
        obtain ⟨m9, hm9, hw⟩ := hw
        exact ih2 m9 hm9 (s2 + 1) h5 hw
  exact key2 n2 0 h hI2
