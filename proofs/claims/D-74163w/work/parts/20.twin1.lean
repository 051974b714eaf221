set_option maxRecDepth 100000
def wp_X1_attributesIn (p0 : Nat) (p1 : Int32) (T : TS) (Q : Int32 → TS → Prop) : Prop :=
  tix p0 40 (4 + p1) ∧
  tix p0 40 (12 + p1) ∧
  Q ((T.a p0 (ni (4 + p1))) + (T.a p0 (ni (12 + p1)))) T
theorem hd_X1_attributesIn : yX1_attributesIn.cls ≠ "java/lang/invoke/MethodHandle" ∧ yX1_attributesIn.cls ≠ "java/lang/invoke/VarHandle" ∧ (parseMethodDescriptor yX1_attributesIn.desc).map (fun d => d.parameters.length) = some 2 := by decide +kernel
theorem ok_X1_attributesIn {l : Launch} {D : va_G} {s0 : S0} (hG : G0 D s0) {o : Nat} {p0 : Nat} {p1 : Int32} {T : TS} {Q : Int32 → TS → Prop} (hw : wp_X1_attributesIn p0 p1 T Q) : OKt l D s0 o yX1_attributesIn cX1_attributesIn 2 (some .int) 0 0 [vA (some (o + 1 + p0)), vI p1] T (TI Q) := by
  refine t_met hG rfl rfl (L0 := [(0, vA (some (o + 1 + p0))), (1, vI p1)]) rfl rfl ?_
  intro h K C
  unfold wp_X1_attributesIn at hw
  refine t_b C (pc' := 4) (L' := [(0, vA (some (o + 1 + p0))), (1, vI p1)]) (st' := [vI (4 + p1), vA (some (o + 1 + p0))]) [(.aload_n 0, 1), (.iconst 4, 1), (.iload_n 1, 1), (.iadd, 1)] ⟨dX1_attributesIn_0, dX1_attributesIn_1, dX1_attributesIn_2, dX1_attributesIn_3, rfl⟩ rfl ?_
  refine t_iald C 5 dX1_attributesIn_4 rfl hw.1 ?_
  replace hw := hw.2
  refine t_b C (pc' := 10) (L' := [(0, vA (some (o + 1 + p0))), (1, vI p1)]) (st' := [vI (12 + p1), vA (some (o + 1 + p0)), vI (T.a p0 (ni (4 + p1)))]) [(.aload_n 0, 1), (.bipush 12, 2), (.iload_n 1, 1), (.iadd, 1)] ⟨dX1_attributesIn_5, dX1_attributesIn_6, dX1_attributesIn_8, dX1_attributesIn_9, rfl⟩ rfl ?_
  refine t_iald C 11 dX1_attributesIn_10 rfl hw.1 ?_
  replace hw := hw.2
  refine t_b C (pc' := 12) (L' := [(0, vA (some (o + 1 + p0))), (1, vI p1)]) (st' := [vI ((T.a p0 (ni (4 + p1))) + (T.a p0 (ni (12 + p1))))]) [(.iadd, 1)] ⟨dX1_attributesIn_11, rfl⟩ rfl ?_
  exact t_iret C dX1_attributesIn_12 ⟨_, rfl, hw⟩
def wp_X1_attributes (p0 : Int32) (T : TS) (Q : Int32 → TS → Prop) : Prop :=
  wp_X1_attributesIn 1 p0 T fun r2 T1 =>
  Q r2 T1
theorem hd_X1_attributes : yX1_attributes.cls = RX1 ∧ yX1_attributes.cls ≠ "java/lang/invoke/MethodHandle" ∧ yX1_attributes.cls ≠ "java/lang/invoke/VarHandle" ∧ (parseMethodDescriptor yX1_attributes.desc).map (fun d => d.parameters.length) = some 1 := by decide +kernel
theorem ok_X1_attributes {l : Launch} {D : va_G} {s0 : S0} (hG : G0 D s0) {o : Nat} {p0 : Int32} {T : TS} {Q : Int32 → TS → Prop} (hw : wp_X1_attributes p0 T Q) : OKt l D s0 o yX1_attributes cX1_attributes 2 (some .int) 1 21 [vA (some o), vI p0] T (TI Q) := by
  refine t_met hG rfl rfl (L0 := [(0, vA (some o)), (1, vI p0)]) rfl rfl ?_
  intro h K C
  unfold wp_X1_attributes at hw
  refine t_b C (pc' := 1) (L' := [(0, vA (some o)), (1, vI p0)]) (st' := [vA (some o)]) [(.aload_n 0, 1)] ⟨dX1_attributes_0, rfl⟩ rfl ?_
  refine t_gA C 201 1 4 dX1_attributes_1 rfl rfl rfl rfl rfl q2189 (fun _ _ _ => rfl) ?_
  refine t_b C (pc' := 5) (L' := [(0, vA (some o)), (1, vI p0)]) (st' := [vI p0, vA (some (o + 1 + 1))]) [(.iload_n 1, 1)] ⟨dX1_attributes_4, rfl⟩ rfl ?_
  refine t_callSI C 8 [vA (some (o + 1 + 1)), vI p0] [] dX1_attributes_5 rfl (ok_X1_attributesIn hG hw) q2494 q2495 q159 q2496 hd_X1_attributesIn ⟨rfl, rfl, rfl⟩ (fun r2 T1 hw => ?_)
  exact t_iret C dX1_attributes_8 ⟨_, rfl, hw⟩
def wp_X1_symbolAt (p0 : Nat) (p1 : Int32) (p2 : Int32) (T : TS) (Q : Int32 → TS → Prop) : Prop :=
  ((p2 = 0 →
  tix p0 40 (20 + p1) ∧
  Q (T.a p0 (ni (20 + p1))) T) ∧ (¬ p2 = 0 →
  tix p0 40 (((44 + (3 * p1)) + p2) - 1) ∧
  Q (T.a p0 (ni (((44 + (3 * p1)) + p2) - 1))) T))
theorem hd_X1_symbolAt : yX1_symbolAt.cls ≠ "java/lang/invoke/MethodHandle" ∧ yX1_symbolAt.cls ≠ "java/lang/invoke/VarHandle" ∧ (parseMethodDescriptor yX1_symbolAt.desc).map (fun d => d.parameters.length) = some 3 := by decide +kernel
theorem ok_X1_symbolAt {l : Launch} {D : va_G} {s0 : S0} (hG : G0 D s0) {o : Nat} {p0 : Nat} {p1 : Int32} {p2 : Int32} {T : TS} {Q : Int32 → TS → Prop} (hw : wp_X1_symbolAt p0 p1 p2 T Q) : OKt l D s0 o yX1_symbolAt cX1_symbolAt 3 (some .int) 0 0 [vA (some (o + 1 + p0)), vI p1, vI p2] T (TI Q) := by
  refine t_met hG rfl rfl (L0 := [(0, vA (some (o + 1 + p0))), (1, vI p1), (2, vI p2)]) rfl rfl ?_
  intro h K C
  unfold wp_X1_symbolAt at hw
  refine t_b C (pc' := 1) (L' := [(0, vA (some (o + 1 + p0))), (1, vI p1), (2, vI p2)]) (st' := [vI p2]) [(.iload_n 2, 1)] ⟨dX1_symbolAt_0, rfl⟩ rfl ?_
  refine t_if_ne C 13 4 dX1_symbolAt_1 rfl rfl (fun hc1 => ?_) (fun hc1 => ?_)
  · replace hw := hw.2 hc1
    refine t_b C (pc' := 24) (L' := [(0, vA (some (o + 1 + p0))), (1, vI p1), (2, vI p2)]) (st' := [vI (((44 + (3 * p1)) + p2) - 1), vA (some (o + 1 + p0))]) [(.aload_n 0, 1), (.bipush 44, 2), (.iconst 3, 1), (.iload_n 1, 1), (.imul, 1), (.iadd, 1), (.iload_n 2, 1), (.iadd, 1), (.iconst 1, 1), (.isub, 1)] ⟨dX1_symbolAt_13, dX1_symbolAt_14, dX1_symbolAt_16, dX1_symbolAt_17, dX1_symbolAt_18, dX1_symbolAt_19, dX1_symbolAt_20, dX1_symbolAt_21, dX1_symbolAt_22, dX1_symbolAt_23, rfl⟩ rfl ?_
    refine t_iald C 25 dX1_symbolAt_24 rfl hw.1 ?_
    replace hw := hw.2
    exact t_iret C dX1_symbolAt_25 ⟨_, rfl, hw⟩
  · replace hw := hw.1 hc1
    refine t_b C (pc' := 9) (L' := [(0, vA (some (o + 1 + p0))), (1, vI p1), (2, vI p2)]) (st' := [vI (20 + p1), vA (some (o + 1 + p0))]) [(.aload_n 0, 1), (.bipush 20, 2), (.iload_n 1, 1), (.iadd, 1)] ⟨dX1_symbolAt_4, dX1_symbolAt_5, dX1_symbolAt_7, dX1_symbolAt_8, rfl⟩ rfl ?_
    refine t_iald C 10 dX1_symbolAt_9 rfl hw.1 ?_
    replace hw := hw.2
    refine t_goto C 25 dX1_symbolAt_10 rfl ?_
    exact t_iret C dX1_symbolAt_25 ⟨_, rfl, hw⟩
def wp_X1_addsInduced (p0 : Int32) (T : TS) (Q : TS → Prop) : Prop :=
  tlp (σ := Int32) (fun s1 T2 k1 =>
  tix 1 40 (32 + p0) ∧
  (((T2.a 1 (ni (32 + p0))) < s1 →
  Q T2) ∧ (¬ (T2.a 1 (ni (32 + p0))) < s1 →
  wp_X1_symbolAt 1 p0 s1 T2 fun r5 T4 =>
  tlp (σ := Int32) (fun s6 T7 k6 =>
  wp_X1_attributes r5 T7 fun r9 T8 =>
  ((r9 ≤ s6 →
  k1 (s1 + 1) T8) ∧ (¬ r9 ≤ s6 →
  tix 6 40 ((8 * s1) + s6) ∧
  tix 5 40 ((8 * r5) + s6) ∧
  tix 6 40 ((8 * s1) + s6) ∧
  ∀ T11, T11 = T8.sa 6 (ni ((8 * s1) + s6)) ((T8.a 6 (ni ((8 * s1) + s6))) ||| (jshl (T8.a 5 (ni ((8 * r5) + s6))) (8 * s1))) →
  k6 (s6 + 1) T11))) 0 T4))) 0 T
theorem hd_X1_addsInduced : yX1_addsInduced.cls = RX1 ∧ yX1_addsInduced.cls ≠ "java/lang/invoke/MethodHandle" ∧ yX1_addsInduced.cls ≠ "java/lang/invoke/VarHandle" ∧ (parseMethodDescriptor yX1_addsInduced.desc).map (fun d => d.parameters.length) = some 1 := by decide +kernel
theorem ok_X1_addsInduced {l : Launch} {D : va_G} {s0 : S0} (hG : G0 D s0) {o : Nat} {p0 : Int32} {T : TS} {Q : TS → Prop} (hw : wp_X1_addsInduced p0 T Q) : OKt l D s0 o yX1_addsInduced cX1_addsInduced 5 none 2 42 [vA (some o), vI p0] T (TV Q) := by
  refine t_met hG rfl rfl (L0 := [(0, vA (some o)), (1, vI p0)]) rfl rfl ?_
  intro h K C
  unfold wp_X1_addsInduced at hw
  refine t_b C (pc' := 2) (L' := [(2, vI 0), (0, vA (some o)), (1, vI p0)]) (st' := []) [(.iconst 0, 1), (.istore_n 2, 1)] ⟨dX1_addsInduced_0, dX1_addsInduced_1, rfl⟩ rfl ?_
  obtain ⟨I1, ⟨n1, hI1⟩, hB1⟩ := tlp.out hw
  refine t_sub C (L' := [(0, vA (some o)), (1, vI p0), (2, vI 0)]) [1, 2, 0] rfl ?_
  have key1 : ∀ (n : Nat) (s1 : Int32) (T2 : TS), I1 n s1 T2 → K 2 [(0, vA (some o)), (1, vI p0), (2, vI s1)] [] T2 := by
    intro n
    induction n using Nat.strongRecOn with
    | ind n ih1 =>
      intro s1 T2 hI
      replace hw := hB1 n s1 T2 hI
      refine t_b C (pc' := 4) (L' := [(0, vA (some o)), (1, vI p0), (2, vI s1)]) (st' := [vA (some o), vI s1]) [(.iload_n 2, 1), (.aload_n 0, 1)] ⟨dX1_addsInduced_2, dX1_addsInduced_3, rfl⟩ rfl ?_
      refine t_gA C 201 1 7 dX1_addsInduced_4 rfl rfl rfl rfl rfl q2189 (fun _ _ _ => rfl) ?_
      refine t_b C (pc' := 11) (L' := [(0, vA (some o)), (1, vI p0), (2, vI s1)]) (st' := [vI (32 + p0), vA (some (o + 1 + 1)), vI s1]) [(.bipush 32, 2), (.iload_n 1, 1), (.iadd, 1)] ⟨dX1_addsInduced_7, dX1_addsInduced_9, dX1_addsInduced_10, rfl⟩ rfl ?_
      refine t_iald C 12 dX1_addsInduced_11 rfl hw.1 ?_
      replace hw := hw.2
      refine t_icmp_gt C 82 15 dX1_addsInduced_12 rfl rfl (fun hc3 => ?_) (fun hc3 => ?_)
      · replace hw := hw.1 hc3
        exact t_vret C dX1_addsInduced_82 ⟨rfl, hw⟩
      · replace hw := hw.2 hc3
        refine t_b C (pc' := 16) (L' := [(0, vA (some o)), (1, vI p0), (2, vI s1)]) (st' := [vA (some o)]) [(.aload_n 0, 1)] ⟨dX1_addsInduced_15, rfl⟩ rfl ?_
        refine t_gA C 201 1 19 dX1_addsInduced_16 rfl rfl rfl rfl rfl q2189 (fun _ _ _ => rfl) ?_
        refine t_b C (pc' := 21) (L' := [(0, vA (some o)), (1, vI p0), (2, vI s1)]) (st' := [vI s1, vI p0, vA (some (o + 1 + 1))]) [(.iload_n 1, 1), (.iload_n 2, 1)] ⟨dX1_addsInduced_19, dX1_addsInduced_20, rfl⟩ rfl ?_
        refine t_callSI C 24 [vA (some (o + 1 + 1)), vI p0, vI s1] [] dX1_addsInduced_21 rfl (ok_X1_symbolAt hG hw) q2520 q2521 q159 q2522 hd_X1_symbolAt ⟨rfl, rfl, rfl⟩ (fun r5 T4 hw => ?_)
        refine t_b C (pc' := 28) (L' := [(4, vI 0), (3, vI r5), (0, vA (some o)), (1, vI p0), (2, vI s1)]) (st' := []) [(.istore_n 3, 1), (.iconst 0, 1), (.istore 4, 2)] ⟨dX1_addsInduced_24, dX1_addsInduced_25, dX1_addsInduced_26, rfl⟩ rfl ?_
        obtain ⟨I6, ⟨n6, hI6⟩, hB6⟩ := tlp.out hw
        refine t_sub C (L' := [(0, vA (some o)), (1, vI p0), (2, vI s1), (3, vI r5), (4, vI 0)]) [2, 3, 4, 1, 0] rfl ?_
        have key6 : ∀ (n : Nat) (s6 : Int32) (T7 : TS), I6 n s6 T7 → K 28 [(0, vA (some o)), (1, vI p0), (2, vI s1), (3, vI r5), (4, vI s6)] [] T7 := by
          intro n
          induction n using Nat.strongRecOn with
          | ind n ih6 =>
            intro s6 T7 hI
            replace hw := hB6 n s6 T7 hI
            refine t_b C (pc' := 32) (L' := [(0, vA (some o)), (1, vI p0), (2, vI s1), (3, vI r5), (4, vI s6)]) (st' := [vI r5, vA (some o), vI s6]) [(.iload 4, 2), (.aload_n 0, 1), (.iload_n 3, 1)] ⟨dX1_addsInduced_28, dX1_addsInduced_30, dX1_addsInduced_31, rfl⟩ rfl ?_
            refine t_callVI C 35 [vI r5] [vI s6] dX1_addsInduced_32 rfl (ok_X1_attributes hG hw) q2578 q2580 qs98 q159 q2581 hd_X1_attributes ⟨rfl, rfl, rfl⟩ (fun r9 T8 hw => ?_)
            refine t_icmp_ge C 76 38 dX1_addsInduced_35 rfl rfl (fun hc10 => ?_) (fun hc10 => ?_)
            · replace hw := hw.1 hc10
              refine t_b C (pc' := 79) (L' := [(2, vI (s1 + 1)), (0, vA (some o)), (1, vI p0), (3, vI r5), (4, vI s6)]) (st' := []) [(.iinc 2 1, 3)] ⟨dX1_addsInduced_76, rfl⟩ rfl ?_
              refine t_goto C 2 dX1_addsInduced_79 rfl ?_
              refine t_sub C (L' := [(0, vA (some o)), (1, vI p0), (2, vI (s1 + 1))]) [1, 2, 0] rfl ?_
              obtain ⟨m9, hm9, hw⟩ := hw
              exact ih1 m9 hm9 (s1 + 1) T8 hw
            · replace hw := hw.2 hc10
              refine t_b C (pc' := 39) (L' := [(0, vA (some o)), (1, vI p0), (2, vI s1), (3, vI r5), (4, vI s6)]) (st' := [vA (some o)]) [(.aload_n 0, 1)] ⟨dX1_addsInduced_38, rfl⟩ rfl ?_
              refine t_gA C 223 6 42 dX1_addsInduced_39 rfl rfl rfl rfl rfl q2211 (fun _ _ _ => rfl) ?_
              refine t_b C (pc' := 50) (L' := [(0, vA (some o)), (1, vI p0), (2, vI s1), (3, vI r5), (4, vI s6)]) (st' := [vI ((8 * s1) + s6), vA (some (o + 1 + 6)), vI ((8 * s1) + s6), vA (some (o + 1 + 6))]) [(.bipush 8, 2), (.iload_n 2, 1), (.imul, 1), (.iload 4, 2), (.iadd, 1), (.dup2, 1)] ⟨dX1_addsInduced_42, dX1_addsInduced_44, dX1_addsInduced_45, dX1_addsInduced_46, dX1_addsInduced_48, dX1_addsInduced_49, rfl⟩ rfl ?_
              refine t_iald C 51 dX1_addsInduced_50 rfl hw.1 ?_
              replace hw := hw.2
              refine t_b C (pc' := 52) (L' := [(0, vA (some o)), (1, vI p0), (2, vI s1), (3, vI r5), (4, vI s6)]) (st' := [vA (some o), vI (T8.a 6 (ni ((8 * s1) + s6))), vI ((8 * s1) + s6), vA (some (o + 1 + 6))]) [(.aload_n 0, 1)] ⟨dX1_addsInduced_51, rfl⟩ rfl ?_
              refine t_gA C 222 5 55 dX1_addsInduced_52 rfl rfl rfl rfl rfl q2210 (fun _ _ _ => rfl) ?_
              refine t_b C (pc' := 62) (L' := [(0, vA (some o)), (1, vI p0), (2, vI s1), (3, vI r5), (4, vI s6)]) (st' := [vI ((8 * r5) + s6), vA (some (o + 1 + 5)), vI (T8.a 6 (ni ((8 * s1) + s6))), vI ((8 * s1) + s6), vA (some (o + 1 + 6))]) [(.bipush 8, 2), (.iload_n 3, 1), (.imul, 1), (.iload 4, 2), (.iadd, 1)] ⟨dX1_addsInduced_55, dX1_addsInduced_57, dX1_addsInduced_58, dX1_addsInduced_59, dX1_addsInduced_61, rfl⟩ rfl ?_
              refine t_iald C 63 dX1_addsInduced_62 rfl hw.1 ?_
              replace hw := hw.2
              refine t_b C (pc' := 69) (L' := [(0, vA (some o)), (1, vI p0), (2, vI s1), (3, vI r5), (4, vI s6)]) (st' := [vI ((T8.a 6 (ni ((8 * s1) + s6))) ||| (jshl (T8.a 5 (ni ((8 * r5) + s6))) (8 * s1))), vI ((8 * s1) + s6), vA (some (o + 1 + 6))]) [(.bipush 8, 2), (.iload_n 2, 1), (.imul, 1), (.ishl, 1), (.ior, 1)] ⟨dX1_addsInduced_63, dX1_addsInduced_65, dX1_addsInduced_66, dX1_addsInduced_67, dX1_addsInduced_68, rfl⟩ rfl ?_
              refine t_iast C 70 dX1_addsInduced_69 rfl hw.1 (fun T11 eT11 => ?_)
              replace hw := hw.2 T11 eT11
              refine t_b C (pc' := 73) (L' := [(4, vI (s6 + 1)), (0, vA (some o)), (1, vI p0), (2, vI s1), (3, vI r5)]) (st' := []) [(.iinc 4 1, 3)] ⟨dX1_addsInduced_70, rfl⟩ rfl ?_
              refine t_goto C 28 dX1_addsInduced_73 rfl ?_
              refine t_sub C (L' := [(0, vA (some o)), (1, vI p0), (2, vI s1), (3, vI r5), (4, vI (s6 + 1))]) [1, 2, 3, 4, 0] rfl ?_
              obtain ⟨m9, hm9, hw⟩ := hw
              exact ih6 m9 hm9 (s6 + 1) T11 hw
        exact key6 n6 0 T4 hI6
  exact key1 n1 0 T hI1
def wp_X1_has (p0 : Int32) (p1 : Int32) (T : TS) (Q : Int32 → TS → Prop) : Prop :=
  ∀ m1 : Int32, m1 = (if ((jshr p0 p1) &&& 1) = 1 then 1 else 0) →
  bz m1 ∧ Q m1 T
theorem hd_X1_has : yX1_has.cls ≠ "java/lang/invoke/MethodHandle" ∧ yX1_has.cls ≠ "java/lang/invoke/VarHandle" ∧ (parseMethodDescriptor yX1_has.desc).map (fun d => d.parameters.length) = some 2 := by decide +kernel
theorem ok_X1_has {l : Launch} {D : va_G} {s0 : S0} (hG : G0 D s0) {o : Nat} {p0 : Int32} {p1 : Int32} {T : TS} {Q : Int32 → TS → Prop} (hw : wp_X1_has p0 p1 T Q) : OKt l D s0 o yX1_has cX1_has 2 (some .boolean) 0 0 [vI p0, vI p1] T (TI Q) := by
  refine t_met hG rfl rfl (L0 := [(0, vI p0), (1, vI p1)]) rfl rfl ?_
  intro h K C
  unfold wp_X1_has at hw
  refine t_b C (pc' := 6) (L' := [(0, vI p0), (1, vI p1)]) (st' := [vI 1, vI ((jshr p0 p1) &&& 1)]) [(.iload_n 0, 1), (.iload_n 1, 1), (.ishr, 1), (.iconst 1, 1), (.iand, 1), (.iconst 1, 1)] ⟨dX1_has_0, dX1_has_1, dX1_has_2, dX1_has_3, dX1_has_4, dX1_has_5, rfl⟩ rfl ?_
  have kj2 : ∀ (m1 : Int32), m1 = (if ((jshr p0 p1) &&& 1) = 1 then 1 else 0) → K 14 [] [vI m1] T := by
    intro m1 em1
    replace hw := hw m1 em1
    exact t_zret C dX1_has_14 (bz_n hw.1) ⟨_, rfl, hw.2⟩
  refine t_icmp_ne C 13 9 dX1_has_6 rfl rfl (fun hc3 => ?_) (fun hc3 => ?_)
  · refine t_b C (pc' := 14) (L' := [(0, vI p0), (1, vI p1)]) (st' := [vI 0]) [(.iconst 0, 1)] ⟨dX1_has_13, rfl⟩ rfl ?_
    refine t_sub C (L' := []) [] rfl ?_
    exact kj2 _ ((if_neg hc3).symm)
  · refine t_b C (pc' := 10) (L' := [(0, vI p0), (1, vI p1)]) (st' := [vI 1]) [(.iconst 1, 1)] ⟨dX1_has_9, rfl⟩ rfl ?_
    refine t_goto C 14 dX1_has_10 rfl ?_
    refine t_sub C (L' := []) [] rfl ?_
    exact kj2 _ ((if_pos hc3).symm)
def wp_X1_isSelf (p0 : Int32) (T : TS) (Q : Int32 → TS → Prop) : Prop :=
  tlp (σ := Int32) (fun s1 T2 k1 =>
  wp_X1_attributes p0 T2 fun r4 T3 =>
  ((r4 ≤ s1 →
  Q 0 T3) ∧ (¬ r4 ≤ s1 →
  tix 5 40 ((8 * p0) + s1) ∧
  wp_X1_has (T3.a 5 (ni ((8 * p0) + s1))) s1 T3 fun r7 T6 =>
  ((r7 = 0 →
  k1 (s1 + 1) T6) ∧ (¬ r7 = 0 →
  Q 1 T6))))) 0 T
theorem hd_X1_isSelf : yX1_isSelf.cls = RX1 ∧ yX1_isSelf.cls ≠ "java/lang/invoke/MethodHandle" ∧ yX1_isSelf.cls ≠ "java/lang/invoke/VarHandle" ∧ (parseMethodDescriptor yX1_isSelf.desc).map (fun d => d.parameters.length) = some 1 := by decide +kernel
theorem ok_X1_isSelf {l : Launch} {D : va_G} {s0 : S0} (hG : G0 D s0) {o : Nat} {p0 : Int32} {T : TS} {Q : Int32 → TS → Prop} (hw : wp_X1_isSelf p0 T Q) : OKt l D s0 o yX1_isSelf cX1_isSelf 3 (some .boolean) 2 42 [vA (some o), vI p0] T (TI Q) := by
  refine t_met hG rfl rfl (L0 := [(0, vA (some o)), (1, vI p0)]) rfl rfl ?_
  intro h K C
  unfold wp_X1_isSelf at hw
  refine t_b C (pc' := 2) (L' := [(2, vI 0), (0, vA (some o)), (1, vI p0)]) (st' := []) [(.iconst 0, 1), (.istore_n 2, 1)] ⟨dX1_isSelf_0, dX1_isSelf_1, rfl⟩ rfl ?_
  obtain ⟨I1, ⟨n1, hI1⟩, hB1⟩ := tlp.out hw
  refine t_sub C (L' := [(0, vA (some o)), (1, vI p0), (2, vI 0)]) [1, 2, 0] rfl ?_
  have key1 : ∀ (n : Nat) (s1 : Int32) (T2 : TS), I1 n s1 T2 → K 2 [(0, vA (some o)), (1, vI p0), (2, vI s1)] [] T2 := by
    intro n
    induction n using Nat.strongRecOn with
    | ind n ih1 =>
      intro s1 T2 hI
      replace hw := hB1 n s1 T2 hI
      refine t_b C (pc' := 5) (L' := [(0, vA (some o)), (1, vI p0), (2, vI s1)]) (st' := [vI p0, vA (some o), vI s1]) [(.iload_n 2, 1), (.aload_n 0, 1), (.iload_n 1, 1)] ⟨dX1_isSelf_2, dX1_isSelf_3, dX1_isSelf_4, rfl⟩ rfl ?_
      refine t_callVI C 8 [vI p0] [vI s1] dX1_isSelf_5 rfl (ok_X1_attributes hG hw) q2578 q2580 qs98 q159 q2581 hd_X1_attributes ⟨rfl, rfl, rfl⟩ (fun r4 T3 hw => ?_)
      refine t_icmp_ge C 37 11 dX1_isSelf_8 rfl rfl (fun hc5 => ?_) (fun hc5 => ?_)
      · replace hw := hw.1 hc5
        refine t_b C (pc' := 38) (L' := [(0, vA (some o)), (1, vI p0), (2, vI s1)]) (st' := [vI 0]) [(.iconst 0, 1)] ⟨dX1_isSelf_37, rfl⟩ rfl ?_
        exact t_zret C dX1_isSelf_38 rfl ⟨_, rfl, hw⟩
      · replace hw := hw.2 hc5
        refine t_b C (pc' := 12) (L' := [(0, vA (some o)), (1, vI p0), (2, vI s1)]) (st' := [vA (some o)]) [(.aload_n 0, 1)] ⟨dX1_isSelf_11, rfl⟩ rfl ?_
        refine t_gA C 222 5 15 dX1_isSelf_12 rfl rfl rfl rfl rfl q2210 (fun _ _ _ => rfl) ?_
        refine t_b C (pc' := 21) (L' := [(0, vA (some o)), (1, vI p0), (2, vI s1)]) (st' := [vI ((8 * p0) + s1), vA (some (o + 1 + 5))]) [(.bipush 8, 2), (.iload_n 1, 1), (.imul, 1), (.iload_n 2, 1), (.iadd, 1)] ⟨dX1_isSelf_15, dX1_isSelf_17, dX1_isSelf_18, dX1_isSelf_19, dX1_isSelf_20, rfl⟩ rfl ?_
        refine t_iald C 22 dX1_isSelf_21 rfl hw.1 ?_
        replace hw := hw.2
        refine t_b C (pc' := 23) (L' := [(0, vA (some o)), (1, vI p0), (2, vI s1)]) (st' := [vI s1, vI (T3.a 5 (ni ((8 * p0) + s1)))]) [(.iload_n 2, 1)] ⟨dX1_isSelf_22, rfl⟩ rfl ?_
        refine t_callSI C 26 [vI (T3.a 5 (ni ((8 * p0) + s1))), vI s1] [] dX1_isSelf_23 rfl (ok_X1_has hG hw) q2586 q2587 q159 q2588 hd_X1_has ⟨rfl, rfl, rfl⟩ (fun r7 T6 hw => ?_)
        refine t_if_eq C 31 29 dX1_isSelf_26 rfl rfl (fun hc8 => ?_) (fun hc8 => ?_)
        · replace hw := hw.1 hc8
          refine t_b C (pc' := 34) (L' := [(2, vI (s1 + 1)), (0, vA (some o)), (1, vI p0)]) (st' := []) [(.iinc 2 1, 3)] ⟨dX1_isSelf_31, rfl⟩ rfl ?_
          refine t_goto C 2 dX1_isSelf_34 rfl ?_
          refine t_sub C (L' := [(0, vA (some o)), (1, vI p0), (2, vI (s1 + 1))]) [1, 2, 0] rfl ?_
          obtain ⟨m9, hm9, hw⟩ := hw
          exact ih1 m9 hm9 (s1 + 1) T6 hw
        · replace hw := hw.2 hc8
          refine t_b C (pc' := 30) (L' := [(0, vA (some o)), (1, vI p0), (2, vI s1)]) (st' := [vI 1]) [(.iconst 1, 1)] ⟨dX1_isSelf_29, rfl⟩ rfl ?_
          exact t_zret C dX1_isSelf_30 rfl ⟨_, rfl, hw⟩
  exact key1 n1 0 T hI1
def wp_X1_isFree (p0 : Int32) (p1 : Int32) (T : TS) (Q : Int32 → TS → Prop) : Prop :=
  tlp (σ := Int32) (fun s1 T2 k1 =>
  wp_X1_attributes p0 T2 fun r4 T3 =>
  ((r4 ≤ s1 →
  Q 1 T3) ∧ (¬ r4 ≤ s1 →
  tix 10 40 s1 ∧
  (((T3.a 10 (ni s1)) = 0 →
  tix 5 40 ((8 * p0) + s1) ∧
  wp_X1_has (T3.a 5 (ni ((8 * p0) + s1))) p1 T3 fun r8 T7 =>
  ((r8 = 0 →
  k1 (s1 + 1) T7) ∧ (¬ r8 = 0 →
  Q 0 T7))) ∧ (¬ (T3.a 10 (ni s1)) = 0 →
  k1 (s1 + 1) T3))))) 0 T
theorem hd_X1_isFree : yX1_isFree.cls = RX1 ∧ yX1_isFree.cls ≠ "java/lang/invoke/MethodHandle" ∧ yX1_isFree.cls ≠ "java/lang/invoke/VarHandle" ∧ (parseMethodDescriptor yX1_isFree.desc).map (fun d => d.parameters.length) = some 2 := by decide +kernel
theorem ok_X1_isFree {l : Launch} {D : va_G} {s0 : S0} (hG : G0 D s0) {o : Nat} {p0 : Int32} {p1 : Int32} {T : TS} {Q : Int32 → TS → Prop} (hw : wp_X1_isFree p0 p1 T Q) : OKt l D s0 o yX1_isFree cX1_isFree 4 (some .boolean) 2 42 [vA (some o), vI p0, vI p1] T (TI Q) := by
  refine t_met hG rfl rfl (L0 := [(0, vA (some o)), (1, vI p0), (2, vI p1)]) rfl rfl ?_
  intro h K C
  unfold wp_X1_isFree at hw
  refine t_b C (pc' := 2) (L' := [(3, vI 0), (0, vA (some o)), (1, vI p0), (2, vI p1)]) (st' := []) [(.iconst 0, 1), (.istore_n 3, 1)] ⟨dX1_isFree_0, dX1_isFree_1, rfl⟩ rfl ?_
  obtain ⟨I1, ⟨n1, hI1⟩, hB1⟩ := tlp.out hw
  refine t_sub C (L' := [(0, vA (some o)), (1, vI p0), (2, vI p1), (3, vI 0)]) [1, 2, 3, 0] rfl ?_
  have key1 : ∀ (n : Nat) (s1 : Int32) (T2 : TS), I1 n s1 T2 → K 2 [(0, vA (some o)), (1, vI p0), (2, vI p1), (3, vI s1)] [] T2 := by
    intro n
    induction n using Nat.strongRecOn with
    | ind n ih1 =>
      intro s1 T2 hI
      replace hw := hB1 n s1 T2 hI
      refine t_b C (pc' := 5) (L' := [(0, vA (some o)), (1, vI p0), (2, vI p1), (3, vI s1)]) (st' := [vI p0, vA (some o), vI s1]) [(.iload_n 3, 1), (.aload_n 0, 1), (.iload_n 1, 1)] ⟨dX1_isFree_2, dX1_isFree_3, dX1_isFree_4, rfl⟩ rfl ?_
      refine t_callVI C 8 [vI p0] [vI s1] dX1_isFree_5 rfl (ok_X1_attributes hG hw) q2578 q2580 qs98 q159 q2581 hd_X1_attributes ⟨rfl, rfl, rfl⟩ (fun r4 T3 hw => ?_)
      refine t_icmp_ge C 46 11 dX1_isFree_8 rfl rfl (fun hc5 => ?_) (fun hc5 => ?_)
      · replace hw := hw.1 hc5
        refine t_b C (pc' := 47) (L' := [(0, vA (some o)), (1, vI p0), (2, vI p1), (3, vI s1)]) (st' := [vI 1]) [(.iconst 1, 1)] ⟨dX1_isFree_46, rfl⟩ rfl ?_
        exact t_zret C dX1_isFree_47 rfl ⟨_, rfl, hw⟩
      · replace hw := hw.2 hc5
        refine t_b C (pc' := 12) (L' := [(0, vA (some o)), (1, vI p0), (2, vI p1), (3, vI s1)]) (st' := [vA (some o)]) [(.aload_n 0, 1)] ⟨dX1_isFree_11, rfl⟩ rfl ?_
        refine t_gA C 228 10 15 dX1_isFree_12 rfl rfl rfl rfl rfl q2216 (fun _ _ _ => rfl) ?_
        refine t_b C (pc' := 16) (L' := [(0, vA (some o)), (1, vI p0), (2, vI p1), (3, vI s1)]) (st' := [vI s1, vA (some (o + 1 + 10))]) [(.iload_n 3, 1)] ⟨dX1_isFree_15, rfl⟩ rfl ?_
        refine t_iald C 17 dX1_isFree_16 rfl hw.1 ?_
        replace hw := hw.2
        refine t_if_ne C 40 20 dX1_isFree_17 rfl rfl (fun hc6 => ?_) (fun hc6 => ?_)
        · replace hw := hw.2 hc6
          refine t_b C (pc' := 43) (L' := [(3, vI (s1 + 1)), (0, vA (some o)), (1, vI p0), (2, vI p1)]) (st' := []) [(.iinc 3 1, 3)] ⟨dX1_isFree_40, rfl⟩ rfl ?_
          refine t_goto C 2 dX1_isFree_43 rfl ?_
          refine t_sub C (L' := [(0, vA (some o)), (1, vI p0), (2, vI p1), (3, vI (s1 + 1))]) [1, 2, 3, 0] rfl ?_
          obtain ⟨m9, hm9, hw⟩ := hw
          exact ih1 m9 hm9 (s1 + 1) T3 hw
        · replace hw := hw.1 hc6
          refine t_b C (pc' := 21) (L' := [(0, vA (some o)), (1, vI p0), (2, vI p1), (3, vI s1)]) (st' := [vA (some o)]) [(.aload_n 0, 1)] ⟨dX1_isFree_20, rfl⟩ rfl ?_
          refine t_gA C 222 5 24 dX1_isFree_21 rfl rfl rfl rfl rfl q2210 (fun _ _ _ => rfl) ?_
          refine t_b C (pc' := 30) (L' := [(0, vA (some o)), (1, vI p0), (2, vI p1), (3, vI s1)]) (st' := [vI ((8 * p0) + s1), vA (some (o + 1 + 5))]) [(.bipush 8, 2), (.iload_n 1, 1), (.imul, 1), (.iload_n 3, 1), (.iadd, 1)] ⟨dX1_isFree_24, dX1_isFree_26, dX1_isFree_27, dX1_isFree_28, dX1_isFree_29, rfl⟩ rfl ?_
          refine t_iald C 31 dX1_isFree_30 rfl hw.1 ?_
          replace hw := hw.2
          refine t_b C (pc' := 32) (L' := [(0, vA (some o)), (1, vI p0), (2, vI p1), (3, vI s1)]) (st' := [vI p1, vI (T3.a 5 (ni ((8 * p0) + s1)))]) [(.iload_n 2, 1)] ⟨dX1_isFree_31, rfl⟩ rfl ?_
          refine t_callSI C 35 [vI (T3.a 5 (ni ((8 * p0) + s1))), vI p1] [] dX1_isFree_32 rfl (ok_X1_has hG hw) q2586 q2587 q159 q2588 hd_X1_has ⟨rfl, rfl, rfl⟩ (fun r8 T7 hw => ?_)
          refine t_if_eq C 40 38 dX1_isFree_35 rfl rfl (fun hc9 => ?_) (fun hc9 => ?_)
          · replace hw := hw.1 hc9
            refine t_b C (pc' := 43) (L' := [(3, vI (s1 + 1)), (0, vA (some o)), (1, vI p0), (2, vI p1)]) (st' := []) [(.iinc 3 1, 3)] ⟨dX1_isFree_40, rfl⟩ rfl ?_
            refine t_goto C 2 dX1_isFree_43 rfl ?_
            refine t_sub C (L' := [(0, vA (some o)), (1, vI p0), (2, vI p1), (3, vI (s1 + 1))]) [1, 2, 3, 0] rfl ?_
            obtain ⟨m9, hm9, hw⟩ := hw
            exact ih1 m9 hm9 (s1 + 1) T7 hw
          · replace hw := hw.2 hc9
            refine t_b C (pc' := 39) (L' := [(0, vA (some o)), (1, vI p0), (2, vI p1), (3, vI s1)]) (st' := [vI 0]) [(.iconst 0, 1)] ⟨dX1_isFree_38, rfl⟩ rfl ?_
            exact t_zret C dX1_isFree_39 rfl ⟨_, rfl, hw⟩
  exact key1 n1 0 T hI1
def wp_X1_fillsSet (p0 : Int32) (p1 : Int32) (T : TS) (Q : TS → Prop) : Prop :=
  tlp (σ := Int32) (fun s1 T2 k1 =>
  ((s1 = 0 →
  Q T2) ∧ (¬ s1 = 0 →
  tlp (σ := Int32 × Int32) (fun s4 T5 k4 =>
  wp_X1_attributes p0 T5 fun r7 T6 =>
  ((r7 ≤ s4.2 →
  k1 s4.1 T6) ∧ (¬ r7 ≤ s4.2 →
  tix 10 40 s4.2 ∧
  (((T6.a 10 (ni s4.2)) = 0 →
  tix 1 40 (4 + p0) ∧
  ∀ m10 : Int32, m10 = (if s4.2 < (T6.a 1 (ni (4 + p0))) then 0 else 1) →
  ((m10 = p1 →
  wp_X1_isFree p0 (s4.2) T6 fun r14 T13 =>
  ((r14 = 0 →
  k4 (s4.1, (s4.2 + 1)) T13) ∧ (¬ r14 = 0 →
  tix 10 40 s4.2 ∧
  ∀ T16, T16 = T13.sa 10 (ni s4.2) (T13.s 231) →
  k4 (1, (s4.2 + 1)) T16))) ∧ (¬ m10 = p1 →
  k4 (s4.1, (s4.2 + 1)) T6))) ∧ (¬ (T6.a 10 (ni s4.2)) = 0 →
  k4 (s4.1, (s4.2 + 1)) T6))))) (0, 0) T2))) 1 T
theorem hd_X1_fillsSet : yX1_fillsSet.cls = RX1 ∧ yX1_fillsSet.cls ≠ "java/lang/invoke/MethodHandle" ∧ yX1_fillsSet.cls ≠ "java/lang/invoke/VarHandle" ∧ (parseMethodDescriptor yX1_fillsSet.desc).map (fun d => d.parameters.length) = some 2 := by decide +kernel
theorem ok_X1_fillsSet {l : Launch} {D : va_G} {s0 : S0} (hG : G0 D s0) {o : Nat} {p0 : Int32} {p1 : Int32} {T : TS} {Q : TS → Prop} (hw : wp_X1_fillsSet p0 p1 T Q) : OKt l D s0 o yX1_fillsSet cX1_fillsSet 5 none 3 65 [vA (some o), vI p0, vI p1] T (TV Q) := by
  refine t_met hG rfl rfl (L0 := [(0, vA (some o)), (1, vI p0), (2, vI p1)]) rfl rfl ?_
  intro h K C
  unfold wp_X1_fillsSet at hw
  refine t_b C (pc' := 2) (L' := [(3, vI 1), (0, vA (some o)), (1, vI p0), (2, vI p1)]) (st' := []) [(.iconst 1, 1), (.istore_n 3, 1)] ⟨dX1_fillsSet_0, dX1_fillsSet_1, rfl⟩ rfl ?_
  obtain ⟨I1, ⟨n1, hI1⟩, hB1⟩ := tlp.out hw
  refine t_sub C (L' := [(0, vA (some o)), (1, vI p0), (2, vI p1), (3, vI 1)]) [1, 2, 3, 0] rfl ?_
  have key1 : ∀ (n : Nat) (s1 : Int32) (T2 : TS), I1 n s1 T2 → K 2 [(0, vA (some o)), (1, vI p0), (2, vI p1), (3, vI s1)] [] T2 := by
    intro n
    induction n using Nat.strongRecOn with
    | ind n ih1 =>
      intro s1 T2 hI
      replace hw := hB1 n s1 T2 hI
      refine t_b C (pc' := 3) (L' := [(0, vA (some o)), (1, vI p0), (2, vI p1), (3, vI s1)]) (st' := [vI s1]) [(.iload_n 3, 1)] ⟨dX1_fillsSet_2, rfl⟩ rfl ?_
      refine t_if_eq C 88 6 dX1_fillsSet_3 rfl rfl (fun hc3 => ?_) (fun hc3 => ?_)
      · replace hw := hw.1 hc3
        exact t_vret C dX1_fillsSet_88 ⟨rfl, hw⟩
      · replace hw := hw.2 hc3
        refine t_b C (pc' := 11) (L' := [(4, vI 0), (3, vI 0), (0, vA (some o)), (1, vI p0), (2, vI p1)]) (st' := []) [(.iconst 0, 1), (.istore_n 3, 1), (.iconst 0, 1), (.istore 4, 2)] ⟨dX1_fillsSet_6, dX1_fillsSet_7, dX1_fillsSet_8, dX1_fillsSet_9, rfl⟩ rfl ?_
        obtain ⟨I4, ⟨n4, hI4⟩, hB4⟩ := tlp.out hw
        refine t_sub C (L' := [(0, vA (some o)), (1, vI p0), (2, vI p1), (3, vI 0), (4, vI 0)]) [2, 3, 4, 1, 0] rfl ?_
        have key4 : ∀ (n : Nat) (s4 : Int32 × Int32) (T5 : TS), I4 n s4 T5 → K 11 [(0, vA (some o)), (1, vI p0), (2, vI p1), (3, vI (s4.1)), (4, vI (s4.2))] [] T5 := by
          intro n
          induction n using Nat.strongRecOn with
          | ind n ih4 =>
            intro s4 T5 hI
            replace hw := hB4 n s4 T5 hI
            refine t_b C (pc' := 15) (L' := [(0, vA (some o)), (1, vI p0), (2, vI p1), (3, vI (s4.1)), (4, vI (s4.2))]) (st' := [vI p0, vA (some o), vI (s4.2)]) [(.iload 4, 2), (.aload_n 0, 1), (.iload_n 1, 1)] ⟨dX1_fillsSet_11, dX1_fillsSet_13, dX1_fillsSet_14, rfl⟩ rfl ?_
            refine t_callVI C 18 [vI p0] [vI (s4.2)] dX1_fillsSet_15 rfl (ok_X1_attributes hG hw) q2578 q2580 qs98 q159 q2581 hd_X1_attributes ⟨rfl, rfl, rfl⟩ (fun r7 T6 hw => ?_)
            refine t_icmp_ge C 85 21 dX1_fillsSet_18 rfl rfl (fun hc8 => ?_) (fun hc8 => ?_)
            · replace hw := hw.1 hc8
              refine t_goto C 2 dX1_fillsSet_85 rfl ?_
              refine t_sub C (L' := [(0, vA (some o)), (1, vI p0), (2, vI p1), (3, vI (s4.1))]) [0, 1, 2, 3] rfl ?_
              obtain ⟨m9, hm9, hw⟩ := hw
              exact ih1 m9 hm9 s4.1 T6 hw
            · replace hw := hw.2 hc8
              refine t_b C (pc' := 22) (L' := [(0, vA (some o)), (1, vI p0), (2, vI p1), (3, vI (s4.1)), (4, vI (s4.2))]) (st' := [vA (some o)]) [(.aload_n 0, 1)] ⟨dX1_fillsSet_21, rfl⟩ rfl ?_
              refine t_gA C 228 10 25 dX1_fillsSet_22 rfl rfl rfl rfl rfl q2216 (fun _ _ _ => rfl) ?_
              refine t_b C (pc' := 27) (L' := [(0, vA (some o)), (1, vI p0), (2, vI p1), (3, vI (s4.1)), (4, vI (s4.2))]) (st' := [vI (s4.2), vA (some (o + 1 + 10))]) [(.iload 4, 2)] ⟨dX1_fillsSet_25, rfl⟩ rfl ?_
              refine t_iald C 28 dX1_fillsSet_27 rfl hw.1 ?_
              replace hw := hw.2
              refine t_if_ne C 79 31 dX1_fillsSet_28 rfl rfl (fun hc9 => ?_) (fun hc9 => ?_)
              · replace hw := hw.2 hc9
                refine t_b C (pc' := 82) (L' := [(4, vI (s4.2 + 1)), (0, vA (some o)), (1, vI p0), (2, vI p1), (3, vI (s4.1))]) (st' := []) [(.iinc 4 1, 3)] ⟨dX1_fillsSet_79, rfl⟩ rfl ?_
                refine t_goto C 11 dX1_fillsSet_82 rfl ?_
                refine t_sub C (L' := [(0, vA (some o)), (1, vI p0), (2, vI p1), (3, vI (s4.1)), (4, vI (s4.2 + 1))]) [1, 2, 3, 4, 0] rfl ?_
                obtain ⟨m9, hm9, hw⟩ := hw
                exact ih4 m9 hm9 (s4.1, (s4.2 + 1)) T6 hw
              · replace hw := hw.1 hc9
                refine t_b C (pc' := 34) (L' := [(0, vA (some o)), (1, vI p0), (2, vI p1), (3, vI (s4.1)), (4, vI (s4.2))]) (st' := [vA (some o), vI (s4.2)]) [(.iload 4, 2), (.aload_n 0, 1)] ⟨dX1_fillsSet_31, dX1_fillsSet_33, rfl⟩ rfl ?_
                refine t_gA C 201 1 37 dX1_fillsSet_34 rfl rfl rfl rfl rfl q2189 (fun _ _ _ => rfl) ?_
                refine t_b C (pc' := 40) (L' := [(0, vA (some o)), (1, vI p0), (2, vI p1), (3, vI (s4.1)), (4, vI (s4.2))]) (st' := [vI (4 + p0), vA (some (o + 1 + 1)), vI (s4.2)]) [(.iconst 4, 1), (.iload_n 1, 1), (.iadd, 1)] ⟨dX1_fillsSet_37, dX1_fillsSet_38, dX1_fillsSet_39, rfl⟩ rfl ?_
                refine t_iald C 41 dX1_fillsSet_40 rfl hw.1 ?_
                replace hw := hw.2
                have kj11 : ∀ (m10 : Int32), m10 = (if s4.2 < (T6.a 1 (ni (4 + p0))) then 0 else 1) → K 49 [(0, vA (some o)), (1, vI p0), (2, vI p1), (3, vI (s4.1)), (4, vI (s4.2))] [vI m10] T6 := by
                  intro m10 em10
                  replace hw := hw m10 em10
                  refine t_b C (pc' := 50) (L' := [(0, vA (some o)), (1, vI p0), (2, vI p1), (3, vI (s4.1)), (4, vI (s4.2))]) (st' := [vI p1, vI m10]) [(.iload_n 2, 1)] ⟨dX1_fillsSet_49, rfl⟩ rfl ?_
                  refine t_icmp_ne C 79 53 dX1_fillsSet_50 rfl rfl (fun hc12 => ?_) (fun hc12 => ?_)
                  · replace hw := hw.2 hc12
                    refine t_b C (pc' := 82) (L' := [(4, vI (s4.2 + 1)), (0, vA (some o)), (1, vI p0), (2, vI p1), (3, vI (s4.1))]) (st' := []) [(.iinc 4 1, 3)] ⟨dX1_fillsSet_79, rfl⟩ rfl ?_
                    refine t_goto C 11 dX1_fillsSet_82 rfl ?_
                    refine t_sub C (L' := [(0, vA (some o)), (1, vI p0), (2, vI p1), (3, vI (s4.1)), (4, vI (s4.2 + 1))]) [1, 2, 3, 4, 0] rfl ?_
                    obtain ⟨m9, hm9, hw⟩ := hw
                    exact ih4 m9 hm9 (s4.1, (s4.2 + 1)) T6 hw
                  · replace hw := hw.1 hc12
                    refine t_b C (pc' := 57) (L' := [(0, vA (some o)), (1, vI p0), (2, vI p1), (3, vI (s4.1)), (4, vI (s4.2))]) (st' := [vI (s4.2), vI p0, vA (some o)]) [(.aload_n 0, 1), (.iload_n 1, 1), (.iload 4, 2)] ⟨dX1_fillsSet_53, dX1_fillsSet_54, dX1_fillsSet_55, rfl⟩ rfl ?_
                    refine t_callVI C 60 [vI p0, vI (s4.2)] [] dX1_fillsSet_57 rfl (ok_X1_isFree hG hw) q2625 q2627 qs106 q159 q2628 hd_X1_isFree ⟨rfl, rfl, rfl⟩ (fun r14 T13 hw => ?_)
                    refine t_if_ne C 66 63 dX1_fillsSet_60 rfl rfl (fun hc15 => ?_) (fun hc15 => ?_)
                    · replace hw := hw.2 hc15
                      refine t_b C (pc' := 67) (L' := [(0, vA (some o)), (1, vI p0), (2, vI p1), (3, vI (s4.1)), (4, vI (s4.2))]) (st' := [vA (some o)]) [(.aload_n 0, 1)] ⟨dX1_fillsSet_66, rfl⟩ rfl ?_
                      refine t_gA C 228 10 70 dX1_fillsSet_67 rfl rfl rfl rfl rfl q2216 (fun _ _ _ => rfl) ?_
                      refine t_b C (pc' := 73) (L' := [(0, vA (some o)), (1, vI p0), (2, vI p1), (3, vI (s4.1)), (4, vI (s4.2))]) (st' := [vA (some o), vI (s4.2), vA (some (o + 1 + 10))]) [(.iload 4, 2), (.aload_n 0, 1)] ⟨dX1_fillsSet_70, dX1_fillsSet_72, rfl⟩ rfl ?_
                      refine t_gI C 231 76 dX1_fillsSet_73 rfl rfl rfl q2219 (fun _ _ _ => rfl) ?_
                      refine t_iast C 77 dX1_fillsSet_76 rfl hw.1 (fun T16 eT16 => ?_)
                      replace hw := hw.2 T16 eT16
                      refine t_b C (pc' := 82) (L' := [(4, vI (s4.2 + 1)), (3, vI 1), (0, vA (some o)), (1, vI p0), (2, vI p1)]) (st' := []) [(.iconst 1, 1), (.istore_n 3, 1), (.iinc 4 1, 3)] ⟨dX1_fillsSet_77, dX1_fillsSet_78, dX1_fillsSet_79, rfl⟩ rfl ?_
                      refine t_goto C 11 dX1_fillsSet_82 rfl ?_
                      refine t_sub C (L' := [(0, vA (some o)), (1, vI p0), (2, vI p1), (3, vI 1), (4, vI (s4.2 + 1))]) [2, 3, 4, 1, 0] rfl ?_
                      obtain ⟨m9, hm9, hw⟩ := hw
                      exact ih4 m9 hm9 (1, (s4.2 + 1)) T16 hw
                    · replace hw := hw.1 hc15
                      refine t_goto C 79 dX1_fillsSet_63 rfl ?_
                      refine t_b C (pc' := 82) (L' := [(4, vI (s4.2 + 1)), (0, vA (some o)), (1, vI p0), (2, vI p1), (3, vI (s4.1))]) (st' := []) [(.iinc 4 1, 3)] ⟨dX1_fillsSet_79, rfl⟩ rfl ?_
                      refine t_goto C 11 dX1_fillsSet_82 rfl ?_
                      refine t_sub C (L' := [(0, vA (some o)), (1, vI p0), (2, vI p1), (3, vI (s4.1)), (4, vI (s4.2 + 1))]) [1, 2, 3, 4, 0] rfl ?_
                      obtain ⟨m9, hm9, hw⟩ := hw
                      exact ih4 m9 hm9 (s4.1, (s4.2 + 1)) T13 hw
                refine t_icmp_lt C 48 44 dX1_fillsSet_41 rfl rfl (fun hc17 => ?_) (fun hc17 => ?_)
                · refine t_b C (pc' := 49) (L' := [(0, vA (some o)), (1, vI p0), (2, vI p1), (3, vI (s4.1)), (4, vI (s4.2))]) (st' := [vI 0]) [(.iconst 0, 1)] ⟨dX1_fillsSet_48, rfl⟩ rfl ?_
                  refine t_sub C (L' := [(0, vA (some o)), (1, vI p0), (2, vI p1), (3, vI (s4.1)), (4, vI (s4.2))]) [0, 1, 2, 3, 4] rfl ?_
                  exact kj11 _ ((if_pos hc17).symm)
                · refine t_b C (pc' := 45) (L' := [(0, vA (some o)), (1, vI p0), (2, vI p1), (3, vI (s4.1)), (4, vI (s4.2))]) (st' := [vI 1]) [(.iconst 1, 1)] ⟨dX1_fillsSet_44, rfl⟩ rfl ?_
                  refine t_goto C 49 dX1_fillsSet_45 rfl ?_
                  refine t_sub C (L' := [(0, vA (some o)), (1, vI p0), (2, vI p1), (3, vI (s4.1)), (4, vI (s4.2))]) [0, 1, 2, 3, 4] rfl ?_
                  exact kj11 _ ((if_neg hc17).symm)
        exact key4 n4 (0, 0) T2 hI4
  exact key1 n1 1 T hI1
def wp_X1_laysVisits (p0 : Int32) (T : TS) (Q : TS → Prop) : Prop :=
  tlp (σ := Int32) (fun s1 T2 k1 =>
  ((8 ≤ s1 →
  ∀ T4, T4 = T2.ss 231 0 →
  wp_X1_attributes p0 T4 fun r6 T5 =>
  ∀ m7 : Int32, m7 = (if r6 ≤ 0 then 0 else 1) →
  tlp (σ := Int32) (fun s9 T10 k9 =>
  ((s9 = 0 →
  ∀ m12 : Int32, m12 = (if (T10.s 231) = 0 then 1 else (((T10.s 231) + 1) / 2)) →
  tix 12 40 p0 ∧
  ∀ T14, T14 = T10.sa 12 (ni p0) m12 →
  tlp (σ := Int32) (fun s15 T16 k15 =>
  wp_X1_attributes p0 T16 fun r18 T17 =>
  ((r18 ≤ s15 →
  Q T17) ∧ (¬ r18 ≤ s15 →
  tix 12 40 p0 ∧
  tix 10 40 s15 ∧
  tix 11 40 ((8 * p0) + s15) ∧
  ∀ T20, T20 = T17.sa 11 (ni ((8 * p0) + s15)) (((T17.a 12 (ni p0)) - (((T17.a 10 (ni s15)) + 1) / 2)) + 1) →
  k15 (s15 + 1) T20))) 0 T14) ∧ (¬ s9 = 0 →
  ∀ T22, T22 = T10.ss 231 ((T10.s 231) + 1) →
  ∀ m23 : Int32, m23 = (if (jrem (T22.s 231) 2) = 1 then 1 else 0) →
  wp_X1_fillsSet p0 m23 T22 fun T25 =>
  tlp (σ := Int32 × Int32) (fun s27 T28 k27 =>
  wp_X1_attributes p0 T28 fun r30 T29 =>
  ((r30 ≤ s27.2 →
  k9 s27.1 T29) ∧ (¬ r30 ≤ s27.2 →
  ((s27.1 = 0 →
  tix 10 40 s27.2 ∧
  ∀ m33 : Int32, m33 = (if (T29.a 10 (ni s27.2)) = 0 then 1 else 0) →
  k27 (m33, (s27.2 + 1)) T29) ∧ (¬ s27.1 = 0 →
  k27 (1, (s27.2 + 1)) T29))))) (0, 0) T25))) m7 T5) ∧ (¬ 8 ≤ s1 →
  tix 10 40 s1 ∧
  ∀ T38, T38 = T2.sa 10 (ni s1) 0 →
  k1 (s1 + 1) T38))) 0 T
theorem hd_X1_laysVisits : yX1_laysVisits.cls = RX1 ∧ yX1_laysVisits.cls ≠ "java/lang/invoke/MethodHandle" ∧ yX1_laysVisits.cls ≠ "java/lang/invoke/VarHandle" ∧ (parseMethodDescriptor yX1_laysVisits.desc).map (fun d => d.parameters.length) = some 1 := by decide +kernel
theorem ok_X1_laysVisits {l : Launch} {D : va_G} {s0 : S0} (hG : G0 D s0) {o : Nat} {p0 : Int32} {T : TS} {Q : TS → Prop} (hw : wp_X1_laysVisits p0 T Q) : OKt l D s0 o yX1_laysVisits cX1_laysVisits 4 none 4 89 [vA (some o), vI p0] T (TV Q) := by
  refine t_met hG rfl rfl (L0 := [(0, vA (some o)), (1, vI p0)]) rfl rfl ?_
  intro h K C
  unfold wp_X1_laysVisits at hw
  refine t_b C (pc' := 2) (L' := [(2, vI 0), (0, vA (some o)), (1, vI p0)]) (st' := []) [(.iconst 0, 1), (.istore_n 2, 1)] ⟨dX1_laysVisits_0, dX1_laysVisits_1, rfl⟩ rfl ?_
  obtain ⟨I1, ⟨n1, hI1⟩, hB1⟩ := tlp.out hw
  refine t_sub C (L' := [(0, vA (some o)), (1, vI p0), (2, vI 0)]) [1, 2, 0] rfl ?_
  have key1 : ∀ (n : Nat) (s1 : Int32) (T2 : TS), I1 n s1 T2 → K 2 [(0, vA (some o)), (1, vI p0), (2, vI s1)] [] T2 := by
    intro n
    induction n using Nat.strongRecOn with
    | ind n ih1 =>
      intro s1 T2 hI
      replace hw := hB1 n s1 T2 hI
      refine t_b C (pc' := 5) (L' := [(0, vA (some o)), (1, vI p0), (2, vI s1)]) (st' := [vI 8, vI s1]) [(.iload_n 2, 1), (.bipush 8, 2)] ⟨dX1_laysVisits_2, dX1_laysVisits_3, rfl⟩ rfl ?_
      refine t_icmp_ge C 21 8 dX1_laysVisits_5 rfl rfl (fun hc3 => ?_) (fun hc3 => ?_)
      · replace hw := hw.1 hc3
        refine t_b C (pc' := 23) (L' := [(0, vA (some o)), (1, vI p0), (2, vI s1)]) (st' := [vI 0, vA (some o)]) [(.aload_n 0, 1), (.iconst 0, 1)] ⟨dX1_laysVisits_21, dX1_laysVisits_22, rfl⟩ rfl ?_
        refine t_pI C 231 26 dX1_laysVisits_23 rfl rfl rfl rfl q2219 (fun _ _ _ => rfl) rfl rfl (fun T4 eT4 => ?_)
        replace hw := hw T4 eT4
        refine t_b C (pc' := 28) (L' := [(0, vA (some o)), (1, vI p0), (2, vI s1)]) (st' := [vI p0, vA (some o)]) [(.aload_n 0, 1), (.iload_n 1, 1)] ⟨dX1_laysVisits_26, dX1_laysVisits_27, rfl⟩ rfl ?_
        refine t_callVI C 31 [vI p0] [] dX1_laysVisits_28 rfl (ok_X1_attributes hG hw) q2578 q2580 qs98 q159 q2581 hd_X1_attributes ⟨rfl, rfl, rfl⟩ (fun r6 T5 hw => ?_)
        have kj8 : ∀ (m7 : Int32), m7 = (if r6 ≤ 0 then 0 else 1) → K 39 [(0, vA (some o)), (1, vI p0)] [vI m7] T5 := by
          intro m7 em7
          replace hw := hw m7 em7
          refine t_b C (pc' := 40) (L' := [(2, vI m7), (0, vA (some o)), (1, vI p0)]) (st' := []) [(.istore_n 2, 1)] ⟨dX1_laysVisits_39, rfl⟩ rfl ?_
          obtain ⟨I9, ⟨n9, hI9⟩, hB9⟩ := tlp.out hw
          refine t_sub C (L' := [(0, vA (some o)), (1, vI p0), (2, vI m7)]) [1, 2, 0] rfl ?_
          have key9 : ∀ (n : Nat) (s9 : Int32) (T10 : TS), I9 n s9 T10 → K 40 [(0, vA (some o)), (1, vI p0), (2, vI s9)] [] T10 := by
            intro n
            induction n using Nat.strongRecOn with
            | ind n ih9 =>
              intro s9 T10 hI
              replace hw := hB9 n s9 T10 hI
              refine t_b C (pc' := 41) (L' := [(0, vA (some o)), (1, vI p0), (2, vI s9)]) (st' := [vI s9]) [(.iload_n 2, 1)] ⟨dX1_laysVisits_40, rfl⟩ rfl ?_
              refine t_if_eq C 115 44 dX1_laysVisits_41 rfl rfl (fun hc11 => ?_) (fun hc11 => ?_)
              · replace hw := hw.1 hc11
                refine t_b C (pc' := 116) (L' := [(0, vA (some o)), (1, vI p0), (2, vI s9)]) (st' := [vA (some o)]) [(.aload_n 0, 1)] ⟨dX1_laysVisits_115, rfl⟩ rfl ?_
                refine t_gA C 230 12 119 dX1_laysVisits_116 rfl rfl rfl rfl rfl q2218 (fun _ _ _ => rfl) ?_
                refine t_b C (pc' := 121) (L' := [(0, vA (some o)), (1, vI p0), (2, vI s9)]) (st' := [vA (some o), vI p0, vA (some (o + 1 + 12))]) [(.iload_n 1, 1), (.aload_n 0, 1)] ⟨dX1_laysVisits_119, dX1_laysVisits_120, rfl⟩ rfl ?_
                refine t_gI C 231 124 dX1_laysVisits_121 rfl rfl rfl q2219 (fun _ _ _ => rfl) ?_
                have kj13 : ∀ (m12 : Int32), m12 = (if (T10.s 231) = 0 then 1 else (((T10.s 231) + 1) / 2)) → K 139 [(0, vA (some o)), (1, vI p0)] [vI m12, vI p0, vA (some (o + 1 + 12))] T10 := by
                  intro m12 em12
                  replace hw := hw m12 em12
                  refine t_iast C 140 dX1_laysVisits_139 rfl hw.1 (fun T14 eT14 => ?_)
                  replace hw := hw.2 T14 eT14
                  refine t_b C (pc' := 142) (L' := [(3, vI 0), (0, vA (some o)), (1, vI p0)]) (st' := []) [(.iconst 0, 1), (.istore_n 3, 1)] ⟨dX1_laysVisits_140, dX1_laysVisits_141, rfl⟩ rfl ?_
                  obtain ⟨I15, ⟨n15, hI15⟩, hB15⟩ := tlp.out hw
                  refine t_sub C (L' := [(0, vA (some o)), (1, vI p0), (3, vI 0)]) [1, 2, 0] rfl ?_
                  have key15 : ∀ (n : Nat) (s15 : Int32) (T16 : TS), I15 n s15 T16 → K 142 [(0, vA (some o)), (1, vI p0), (3, vI s15)] [] T16 := by
                    intro n
                    induction n using Nat.strongRecOn with
                    | ind n ih15 =>
                      intro s15 T16 hI
                      replace hw := hB15 n s15 T16 hI
                      refine t_b C (pc' := 145) (L' := [(0, vA (some o)), (1, vI p0), (3, vI s15)]) (st' := [vI p0, vA (some o), vI s15]) [(.iload_n 3, 1), (.aload_n 0, 1), (.iload_n 1, 1)] ⟨dX1_laysVisits_142, dX1_laysVisits_143, dX1_laysVisits_144, rfl⟩ rfl ?_
                      refine t_callVI C 148 [vI p0] [vI s15] dX1_laysVisits_145 rfl (ok_X1_attributes hG hw) q2578 q2580 qs98 q159 q2581 hd_X1_attributes ⟨rfl, rfl, rfl⟩ (fun r18 T17 hw => ?_)
                      refine t_icmp_ge C 187 151 dX1_laysVisits_148 rfl rfl (fun hc19 => ?_) (fun hc19 => ?_)
                      · replace hw := hw.1 hc19
                        exact t_vret C dX1_laysVisits_187 ⟨rfl, hw⟩
                      · replace hw := hw.2 hc19
                        refine t_b C (pc' := 152) (L' := [(0, vA (some o)), (1, vI p0), (3, vI s15)]) (st' := [vA (some o)]) [(.aload_n 0, 1)] ⟨dX1_laysVisits_151, rfl⟩ rfl ?_
                        refine t_gA C 229 11 155 dX1_laysVisits_152 rfl rfl rfl rfl rfl q2217 (fun _ _ _ => rfl) ?_
                        refine t_b C (pc' := 162) (L' := [(0, vA (some o)), (1, vI p0), (3, vI s15)]) (st' := [vA (some o), vI ((8 * p0) + s15), vA (some (o + 1 + 11))]) [(.bipush 8, 2), (.iload_n 1, 1), (.imul, 1), (.iload_n 3, 1), (.iadd, 1), (.aload_n 0, 1)] ⟨dX1_laysVisits_155, dX1_laysVisits_157, dX1_laysVisits_158, dX1_laysVisits_159, dX1_laysVisits_160, dX1_laysVisits_161, rfl⟩ rfl ?_
                        refine t_gA C 230 12 165 dX1_laysVisits_162 rfl rfl rfl rfl rfl q2218 (fun _ _ _ => rfl) ?_
                        refine t_b C (pc' := 166) (L' := [(0, vA (some o)), (1, vI p0), (3, vI s15)]) (st' := [vI p0, vA (some (o + 1 + 12)), vI ((8 * p0) + s15), vA (some (o + 1 + 11))]) [(.iload_n 1, 1)] ⟨dX1_laysVisits_165, rfl⟩ rfl ?_
                        refine t_iald C 167 dX1_laysVisits_166 rfl hw.1 ?_
                        replace hw := hw.2
                        refine t_b C (pc' := 168) (L' := [(0, vA (some o)), (1, vI p0), (3, vI s15)]) (st' := [vA (some o), vI (T17.a 12 (ni p0)), vI ((8 * p0) + s15), vA (some (o + 1 + 11))]) [(.aload_n 0, 1)] ⟨dX1_laysVisits_167, rfl⟩ rfl ?_
                        refine t_gA C 228 10 171 dX1_laysVisits_168 rfl rfl rfl rfl rfl q2216 (fun _ _ _ => rfl) ?_
                        refine t_b C (pc' := 172) (L' := [(0, vA (some o)), (1, vI p0), (3, vI s15)]) (st' := [vI s15, vA (some (o + 1 + 10)), vI (T17.a 12 (ni p0)), vI ((8 * p0) + s15), vA (some (o + 1 + 11))]) [(.iload_n 3, 1)] ⟨dX1_laysVisits_171, rfl⟩ rfl ?_
                        refine t_iald C 173 dX1_laysVisits_172 rfl hw.1 ?_
                        replace hw := hw.2
                        refine t_b C (pc' := 180) (L' := [(0, vA (some o)), (1, vI p0), (3, vI s15)]) (st' := [vI (((T17.a 12 (ni p0)) - (((T17.a 10 (ni s15)) + 1) / 2)) + 1), vI ((8 * p0) + s15), vA (some (o + 1 + 11))]) [(.iconst 1, 1), (.iadd, 1), (.iconst 2, 1), (.idiv, 1), (.isub, 1), (.iconst 1, 1), (.iadd, 1)] ⟨dX1_laysVisits_173, dX1_laysVisits_174, dX1_laysVisits_175, dX1_laysVisits_176, dX1_laysVisits_177, dX1_laysVisits_178, dX1_laysVisits_179, rfl⟩ rfl ?_
                        refine t_iast C 181 dX1_laysVisits_180 rfl hw.1 (fun T20 eT20 => ?_)
                        replace hw := hw.2 T20 eT20
                        refine t_b C (pc' := 184) (L' := [(3, vI (s15 + 1)), (0, vA (some o)), (1, vI p0)]) (st' := []) [(.iinc 3 1, 3)] ⟨dX1_laysVisits_181, rfl⟩ rfl ?_
                        refine t_goto C 142 dX1_laysVisits_184 rfl ?_
                        refine t_sub C (L' := [(0, vA (some o)), (1, vI p0), (3, vI (s15 + 1))]) [1, 2, 0] rfl ?_
                        obtain ⟨m9, hm9, hw⟩ := hw
                        exact ih15 m9 hm9 (s15 + 1) T20 hw
                  exact key15 n15 0 T14 hI15
                refine t_if_ne C 131 127 dX1_laysVisits_124 rfl rfl (fun hc21 => ?_) (fun hc21 => ?_)
                · refine t_b C (pc' := 132) (L' := [(0, vA (some o)), (1, vI p0), (2, vI s9)]) (st' := [vA (some o), vI p0, vA (some (o + 1 + 12))]) [(.aload_n 0, 1)] ⟨dX1_laysVisits_131, rfl⟩ rfl ?_
                  refine t_gI C 231 135 dX1_laysVisits_132 rfl rfl rfl q2219 (fun _ _ _ => rfl) ?_
                  refine t_b C (pc' := 139) (L' := [(0, vA (some o)), (1, vI p0), (2, vI s9)]) (st' := [vI (((T10.s 231) + 1) / 2), vI p0, vA (some (o + 1 + 12))]) [(.iconst 1, 1), (.iadd, 1), (.iconst 2, 1), (.idiv, 1)] ⟨dX1_laysVisits_135, dX1_laysVisits_136, dX1_laysVisits_137, dX1_laysVisits_138, rfl⟩ rfl ?_
                  refine t_sub C (L' := [(0, vA (some o)), (1, vI p0)]) [0, 1] rfl ?_
                  exact kj13 _ ((if_neg hc21).symm)
                · refine t_b C (pc' := 128) (L' := [(0, vA (some o)), (1, vI p0), (2, vI s9)]) (st' := [vI 1, vI p0, vA (some (o + 1 + 12))]) [(.iconst 1, 1)] ⟨dX1_laysVisits_127, rfl⟩ rfl ?_
                  refine t_goto C 139 dX1_laysVisits_128 rfl ?_
                  refine t_sub C (L' := [(0, vA (some o)), (1, vI p0)]) [0, 1] rfl ?_
                  exact kj13 _ ((if_pos hc21).symm)
              · replace hw := hw.2 hc11
                refine t_b C (pc' := 46) (L' := [(0, vA (some o)), (1, vI p0), (2, vI s9)]) (st' := [vA (some o), vA (some o)]) [(.aload_n 0, 1), (.dup, 1)] ⟨dX1_laysVisits_44, dX1_laysVisits_45, rfl⟩ rfl ?_
                refine t_gI C 231 49 dX1_laysVisits_46 rfl rfl rfl q2219 (fun _ _ _ => rfl) ?_
                refine t_b C (pc' := 51) (L' := [(0, vA (some o)), (1, vI p0), (2, vI s9)]) (st' := [vI ((T10.s 231) + 1), vA (some o)]) [(.iconst 1, 1), (.iadd, 1)] ⟨dX1_laysVisits_49, dX1_laysVisits_50, rfl⟩ rfl ?_
                refine t_pI C 231 54 dX1_laysVisits_51 rfl rfl rfl rfl q2219 (fun _ _ _ => rfl) rfl rfl (fun T22 eT22 => ?_)
                replace hw := hw T22 eT22
                refine t_b C (pc' := 57) (L' := [(0, vA (some o)), (1, vI p0), (2, vI s9)]) (st' := [vA (some o), vI p0, vA (some o)]) [(.aload_n 0, 1), (.iload_n 1, 1), (.aload_n 0, 1)] ⟨dX1_laysVisits_54, dX1_laysVisits_55, dX1_laysVisits_56, rfl⟩ rfl ?_
                refine t_gI C 231 60 dX1_laysVisits_57 rfl rfl rfl q2219 (fun _ _ _ => rfl) ?_
                refine t_b C (pc' := 63) (L' := [(0, vA (some o)), (1, vI p0), (2, vI s9)]) (st' := [vI 1, vI (jrem (T22.s 231) 2), vI p0, vA (some o)]) [(.iconst 2, 1), (.irem, 1), (.iconst 1, 1)] ⟨dX1_laysVisits_60, dX1_laysVisits_61, dX1_laysVisits_62, rfl⟩ rfl ?_
                have kj24 : ∀ (m23 : Int32), m23 = (if (jrem (T22.s 231) 2) = 1 then 1 else 0) → K 71 [(0, vA (some o)), (1, vI p0)] [vI m23, vI p0, vA (some o)] T22 := by
                  intro m23 em23
                  replace hw := hw m23 em23
                  refine t_callVV C 74 [vI p0, vI m23] [] dX1_laysVisits_71 rfl (ok_X1_fillsSet hG hw) q2621 q2623 qs105 q159 q2624 hd_X1_fillsSet ⟨rfl, rfl, rfl⟩ (fun T25 hw => ?_)
                  refine t_b C (pc' := 78) (L' := [(3, vI 0), (2, vI 0), (0, vA (some o)), (1, vI p0)]) (st' := []) [(.iconst 0, 1), (.istore_n 2, 1), (.iconst 0, 1), (.istore_n 3, 1)] ⟨dX1_laysVisits_74, dX1_laysVisits_75, dX1_laysVisits_76, dX1_laysVisits_77, rfl⟩ rfl ?_
                  obtain ⟨I27, ⟨n27, hI27⟩, hB27⟩ := tlp.out hw
                  refine t_sub C (L' := [(0, vA (some o)), (1, vI p0), (2, vI 0), (3, vI 0)]) [2, 3, 1, 0] rfl ?_
                  have key27 : ∀ (n : Nat) (s27 : Int32 × Int32) (T28 : TS), I27 n s27 T28 → K 78 [(0, vA (some o)), (1, vI p0), (2, vI (s27.1)), (3, vI (s27.2))] [] T28 := by
                    intro n
                    induction n using Nat.strongRecOn with
                    | ind n ih27 =>
                      intro s27 T28 hI
                      replace hw := hB27 n s27 T28 hI
                      refine t_b C (pc' := 81) (L' := [(0, vA (some o)), (1, vI p0), (2, vI (s27.1)), (3, vI (s27.2))]) (st' := [vI p0, vA (some o), vI (s27.2)]) [(.iload_n 3, 1), (.aload_n 0, 1), (.iload_n 1, 1)] ⟨dX1_laysVisits_78, dX1_laysVisits_79, dX1_laysVisits_80, rfl⟩ rfl ?_
                      refine t_callVI C 84 [vI p0] [vI (s27.2)] dX1_laysVisits_81 rfl (ok_X1_attributes hG hw) q2578 q2580 qs98 q159 q2581 hd_X1_attributes ⟨rfl, rfl, rfl⟩ (fun r30 T29 hw => ?_)
                      refine t_icmp_ge C 112 87 dX1_laysVisits_84 rfl rfl (fun hc31 => ?_) (fun hc31 => ?_)
                      · replace hw := hw.1 hc31
                        refine t_goto C 40 dX1_laysVisits_112 rfl ?_
                        refine t_sub C (L' := [(0, vA (some o)), (1, vI p0), (2, vI (s27.1))]) [0, 1, 2] rfl ?_
                        obtain ⟨m9, hm9, hw⟩ := hw
                        exact ih9 m9 hm9 s27.1 T29 hw
                      · replace hw := hw.2 hc31
                        refine t_b C (pc' := 88) (L' := [(0, vA (some o)), (1, vI p0), (2, vI (s27.1)), (3, vI (s27.2))]) (st' := [vI (s27.1)]) [(.iload_n 2, 1)] ⟨dX1_laysVisits_87, rfl⟩ rfl ?_
                        refine t_if_ne C 100 91 dX1_laysVisits_88 rfl rfl (fun hc32 => ?_) (fun hc32 => ?_)
                        · replace hw := hw.2 hc32
                          refine t_b C (pc' := 101) (L' := [(0, vA (some o)), (1, vI p0), (2, vI (s27.1)), (3, vI (s27.2))]) (st' := [vI 1]) [(.iconst 1, 1)] ⟨dX1_laysVisits_100, rfl⟩ rfl ?_
                          refine t_goto C 105 dX1_laysVisits_101 rfl ?_
                          refine t_b C (pc' := 109) (L' := [(3, vI (s27.2 + 1)), (2, vI 1), (0, vA (some o)), (1, vI p0)]) (st' := []) [(.istore_n 2, 1), (.iinc 3 1, 3)] ⟨dX1_laysVisits_105, dX1_laysVisits_106, rfl⟩ rfl ?_
                          refine t_goto C 78 dX1_laysVisits_109 rfl ?_
                          refine t_sub C (L' := [(0, vA (some o)), (1, vI p0), (2, vI 1), (3, vI (s27.2 + 1))]) [2, 3, 1, 0] rfl ?_
                          obtain ⟨m9, hm9, hw⟩ := hw
                          exact ih27 m9 hm9 (1, (s27.2 + 1)) T29 hw
                        · replace hw := hw.1 hc32
                          refine t_b C (pc' := 92) (L' := [(0, vA (some o)), (1, vI p0), (2, vI (s27.1)), (3, vI (s27.2))]) (st' := [vA (some o)]) [(.aload_n 0, 1)] ⟨dX1_laysVisits_91, rfl⟩ rfl ?_
                          refine t_gA C 228 10 95 dX1_laysVisits_92 rfl rfl rfl rfl rfl q2216 (fun _ _ _ => rfl) ?_
                          refine t_b C (pc' := 96) (L' := [(0, vA (some o)), (1, vI p0), (2, vI (s27.1)), (3, vI (s27.2))]) (st' := [vI (s27.2), vA (some (o + 1 + 10))]) [(.iload_n 3, 1)] ⟨dX1_laysVisits_95, rfl⟩ rfl ?_
                          refine t_iald C 97 dX1_laysVisits_96 rfl hw.1 ?_
                          replace hw := hw.2
                          have kj34 : ∀ (m33 : Int32), m33 = (if (T29.a 10 (ni s27.2)) = 0 then 1 else 0) → K 105 [(0, vA (some o)), (1, vI p0), (3, vI (s27.2))] [vI m33] T29 := by
                            intro m33 em33
                            replace hw := hw m33 em33
                            refine t_b C (pc' := 109) (L' := [(3, vI (s27.2 + 1)), (2, vI m33), (0, vA (some o)), (1, vI p0)]) (st' := []) [(.istore_n 2, 1), (.iinc 3 1, 3)] ⟨dX1_laysVisits_105, dX1_laysVisits_106, rfl⟩ rfl ?_
                            refine t_goto C 78 dX1_laysVisits_109 rfl ?_
                            refine t_sub C (L' := [(0, vA (some o)), (1, vI p0), (2, vI m33), (3, vI (s27.2 + 1))]) [2, 3, 1, 0] rfl ?_
                            obtain ⟨m9, hm9, hw⟩ := hw
                            exact ih27 m9 hm9 (m33, (s27.2 + 1)) T29 hw
                          refine t_if_ne C 104 100 dX1_laysVisits_97 rfl rfl (fun hc35 => ?_) (fun hc35 => ?_)
                          · refine t_b C (pc' := 105) (L' := [(0, vA (some o)), (1, vI p0), (2, vI (s27.1)), (3, vI (s27.2))]) (st' := [vI 0]) [(.iconst 0, 1)] ⟨dX1_laysVisits_104, rfl⟩ rfl ?_
                            refine t_sub C (L' := [(0, vA (some o)), (1, vI p0), (3, vI (s27.2))]) [0, 1, 3] rfl ?_
                            exact kj34 _ ((if_neg hc35).symm)
                          · refine t_b C (pc' := 101) (L' := [(0, vA (some o)), (1, vI p0), (2, vI (s27.1)), (3, vI (s27.2))]) (st' := [vI 1]) [(.iconst 1, 1)] ⟨dX1_laysVisits_100, rfl⟩ rfl ?_
                            refine t_goto C 105 dX1_laysVisits_101 rfl ?_
                            refine t_sub C (L' := [(0, vA (some o)), (1, vI p0), (3, vI (s27.2))]) [0, 1, 3] rfl ?_
                            exact kj34 _ ((if_pos hc35).symm)
                  exact key27 n27 (0, 0) T25 hI27
                refine t_icmp_ne C 70 66 dX1_laysVisits_63 rfl rfl (fun hc36 => ?_) (fun hc36 => ?_)
                · refine t_b C (pc' := 71) (L' := [(0, vA (some o)), (1, vI p0), (2, vI s9)]) (st' := [vI 0, vI p0, vA (some o)]) [(.iconst 0, 1)] ⟨dX1_laysVisits_70, rfl⟩ rfl ?_
                  refine t_sub C (L' := [(0, vA (some o)), (1, vI p0)]) [0, 1] rfl ?_
                  exact kj24 _ ((if_neg hc36).symm)
                · refine t_b C (pc' := 67) (L' := [(0, vA (some o)), (1, vI p0), (2, vI s9)]) (st' := [vI 1, vI p0, vA (some o)]) [(.iconst 1, 1)] ⟨dX1_laysVisits_66, rfl⟩ rfl ?_
                  refine t_goto C 71 dX1_laysVisits_67 rfl ?_
                  refine t_sub C (L' := [(0, vA (some o)), (1, vI p0)]) [0, 1] rfl ?_
                  exact kj24 _ ((if_pos hc36).symm)
          exact key9 n9 m7 T5 hI9
        refine t_if_le C 38 34 dX1_laysVisits_31 rfl rfl (fun hc37 => ?_) (fun hc37 => ?_)
        · refine t_b C (pc' := 39) (L' := [(0, vA (some o)), (1, vI p0), (2, vI s1)]) (st' := [vI 0]) [(.iconst 0, 1)] ⟨dX1_laysVisits_38, rfl⟩ rfl ?_
          refine t_sub C (L' := [(0, vA (some o)), (1, vI p0)]) [0, 1] rfl ?_
          exact kj8 _ ((if_pos hc37).symm)
        · refine t_b C (pc' := 35) (L' := [(0, vA (some o)), (1, vI p0), (2, vI s1)]) (st' := [vI 1]) [(.iconst 1, 1)] ⟨dX1_laysVisits_34, rfl⟩ rfl ?_
          refine t_goto C 39 dX1_laysVisits_35 rfl ?_
          refine t_sub C (L' := [(0, vA (some o)), (1, vI p0)]) [0, 1] rfl ?_
          exact kj8 _ ((if_neg hc37).symm)
      · replace hw := hw.2 hc3
        refine t_b C (pc' := 9) (L' := [(0, vA (some o)), (1, vI p0), (2, vI s1)]) (st' := [vA (some o)]) [(.aload_n 0, 1)] ⟨dX1_laysVisits_8, rfl⟩ rfl ?_
        refine t_gA C 228 10 12 dX1_laysVisits_9 rfl rfl rfl rfl rfl q2216 (fun _ _ _ => rfl) ?_
        refine t_b C (pc' := 14) (L' := [(0, vA (some o)), (1, vI p0), (2, vI s1)]) (st' := [vI 0, vI s1, vA (some (o + 1 + 10))]) [(.iload_n 2, 1), (.iconst 0, 1)] ⟨dX1_laysVisits_12, dX1_laysVisits_13, rfl⟩ rfl ?_
        refine t_iast C 15 dX1_laysVisits_14 rfl hw.1 (fun T38 eT38 => ?_)
        replace hw := hw.2 T38 eT38
        refine t_b C (pc' := 18) (L' := [(2, vI (s1 + 1)), (0, vA (some o)), (1, vI p0)]) (st' := []) [(.iinc 2 1, 3)] ⟨dX1_laysVisits_15, rfl⟩ rfl ?_
        refine t_goto C 2 dX1_laysVisits_18 rfl ?_
        refine t_sub C (L' := [(0, vA (some o)), (1, vI p0), (2, vI (s1 + 1))]) [1, 2, 0] rfl ?_
        obtain ⟨m9, hm9, hw⟩ := hw
        exact ih1 m9 hm9 (s1 + 1) T38 hw
  exact key1 n1 0 T hI1
def wp_X1_laysAllVisits  (T : TS) (Q : TS → Prop) : Prop :=
  tlp (σ := Int32) (fun s1 T2 k1 =>
  tix 1 40 0 ∧
  (((T2.a 1 (ni 0)) ≤ s1 →
  Q T2) ∧ (¬ (T2.a 1 (ni 0)) ≤ s1 →
  wp_X1_isSelf s1 T2 fun r5 T4 =>
  ((r5 = 0 →
  wp_X1_laysVisits s1 T4 fun T7 =>
  k1 (s1 + 1) T7) ∧ (¬ r5 = 0 →
  k1 (s1 + 1) T4))))) 0 T
theorem hd_X1_laysAllVisits : yX1_laysAllVisits.cls = RX1 ∧ yX1_laysAllVisits.cls ≠ "java/lang/invoke/MethodHandle" ∧ yX1_laysAllVisits.cls ≠ "java/lang/invoke/VarHandle" ∧ (parseMethodDescriptor yX1_laysAllVisits.desc).map (fun d => d.parameters.length) = some 0 := by decide +kernel
theorem ok_X1_laysAllVisits {l : Launch} {D : va_G} {s0 : S0} (hG : G0 D s0) {o : Nat}  {T : TS} {Q : TS → Prop} (hw : wp_X1_laysAllVisits  T Q) : OKt l D s0 o yX1_laysAllVisits cX1_laysAllVisits 2 none 5 112 [vA (some o)] T (TV Q) := by
  refine t_met hG rfl rfl (L0 := [(0, vA (some o))]) rfl rfl ?_
  intro h K C
  unfold wp_X1_laysAllVisits at hw
  refine t_b C (pc' := 2) (L' := [(1, vI 0), (0, vA (some o))]) (st' := []) [(.iconst 0, 1), (.istore_n 1, 1)] ⟨dX1_laysAllVisits_0, dX1_laysAllVisits_1, rfl⟩ rfl ?_
  obtain ⟨I1, ⟨n1, hI1⟩, hB1⟩ := tlp.out hw
  refine t_sub C (L' := [(0, vA (some o)), (1, vI 0)]) [1, 0] rfl ?_
  have key1 : ∀ (n : Nat) (s1 : Int32) (T2 : TS), I1 n s1 T2 → K 2 [(0, vA (some o)), (1, vI s1)] [] T2 := by
    intro n
    induction n using Nat.strongRecOn with
    | ind n ih1 =>
      intro s1 T2 hI
      replace hw := hB1 n s1 T2 hI
      refine t_b C (pc' := 4) (L' := [(0, vA (some o)), (1, vI s1)]) (st' := [vA (some o), vI s1]) [(.iload_n 1, 1), (.aload_n 0, 1)] ⟨dX1_laysAllVisits_2, dX1_laysAllVisits_3, rfl⟩ rfl ?_
      refine t_gA C 201 1 7 dX1_laysAllVisits_4 rfl rfl rfl rfl rfl q2189 (fun _ _ _ => rfl) ?_
      refine t_b C (pc' := 8) (L' := [(0, vA (some o)), (1, vI s1)]) (st' := [vI 0, vA (some (o + 1 + 1)), vI s1]) [(.iconst 0, 1)] ⟨dX1_laysAllVisits_7, rfl⟩ rfl ?_
      refine t_iald C 9 dX1_laysAllVisits_8 rfl hw.1 ?_
      replace hw := hw.2
      refine t_icmp_ge C 31 12 dX1_laysAllVisits_9 rfl rfl (fun hc3 => ?_) (fun hc3 => ?_)
      · replace hw := hw.1 hc3
        exact t_vret C dX1_laysAllVisits_31 ⟨rfl, hw⟩
      · replace hw := hw.2 hc3
        refine t_b C (pc' := 14) (L' := [(0, vA (some o)), (1, vI s1)]) (st' := [vI s1, vA (some o)]) [(.aload_n 0, 1), (.iload_n 1, 1)] ⟨dX1_laysAllVisits_12, dX1_laysAllVisits_13, rfl⟩ rfl ?_
        refine t_callVI C 17 [vI s1] [] dX1_laysAllVisits_14 rfl (ok_X1_isSelf hG hw) q2613 q2615 qs103 q159 q2616 hd_X1_isSelf ⟨rfl, rfl, rfl⟩ (fun r5 T4 hw => ?_)
        refine t_if_ne C 25 20 dX1_laysAllVisits_17 rfl rfl (fun hc6 => ?_) (fun hc6 => ?_)
        · replace hw := hw.2 hc6
          refine t_b C (pc' := 28) (L' := [(1, vI (s1 + 1)), (0, vA (some o))]) (st' := []) [(.iinc 1 1, 3)] ⟨dX1_laysAllVisits_25, rfl⟩ rfl ?_
          refine t_goto C 2 dX1_laysAllVisits_28 rfl ?_
          refine t_sub C (L' := [(0, vA (some o)), (1, vI (s1 + 1))]) [1, 0] rfl ?_
          obtain ⟨m9, hm9, hw⟩ := hw
          exact ih1 m9 hm9 (s1 + 1) T4 hw
        · replace hw := hw.1 hc6
          refine t_b C (pc' := 22) (L' := [(0, vA (some o)), (1, vI s1)]) (st' := [vI s1, vA (some o)]) [(.aload_n 0, 1), (.iload_n 1, 1)] ⟨dX1_laysAllVisits_20, dX1_laysAllVisits_21, rfl⟩ rfl ?_
          refine t_callVV C 25 [vI s1] [] dX1_laysAllVisits_22 rfl (ok_X1_laysVisits hG hw) q2617 q2619 qs104 q159 q2620 hd_X1_laysVisits ⟨rfl, rfl, rfl⟩ (fun T7 hw => ?_)
          refine t_b C (pc' := 28) (L' := [(1, vI (s1 + 1)), (0, vA (some o))]) (st' := []) [(.iinc 1 1, 3)] ⟨dX1_laysAllVisits_25, rfl⟩ rfl ?_
          refine t_goto C 2 dX1_laysAllVisits_28 rfl ?_
          refine t_sub C (L' := [(0, vA (some o)), (1, vI (s1 + 1))]) [1, 0] rfl ?_
          obtain ⟨m9, hm9, hw⟩ := hw
          exact ih1 m9 hm9 (s1 + 1) T7 hw
  exact key1 n1 0 T hI1
def wp_X1_addsVisits (p0 : Int32) (T : TS) (Q : TS → Prop) : Prop :=
  wp_X1_laysAllVisits  T fun T1 =>
  tlp (σ := Int32) (fun s3 T4 k3 =>
  tix 1 40 (32 + p0) ∧
  (((T4.a 1 (ni (32 + p0))) < s3 →
  Q T4) ∧ (¬ (T4.a 1 (ni (32 + p0))) < s3 →
  wp_X1_symbolAt 1 p0 s3 T4 fun r7 T6 =>
  tlp (σ := Int32) (fun s8 T9 k8 =>
  wp_X1_attributes r7 T9 fun r11 T10 =>
  ((r11 ≤ s8 →
  k3 (s3 + 1) T10) ∧ (¬ r11 ≤ s8 →
  tlp (σ := Int32) (fun s13 T14 k13 =>
  wp_X1_attributes r7 T14 fun r16 T15 =>
  ((r16 ≤ s13 →
  k8 (s8 + 1) T15) ∧ (¬ r16 ≤ s13 →
  tix 11 40 ((8 * r7) + s8) ∧
  tix 11 40 ((8 * r7) + s13) ∧
  ∀ m18 : Int32, m18 = (if (T15.a 11 (ni ((8 * r7) + s8))) ≤ (T15.a 11 (ni ((8 * r7) + s13))) then 0 else 1) →
  tix 11 40 ((8 * r7) + s8) ∧
  tix 11 40 ((8 * r7) + s13) ∧
  tjn (α := Int32) (fun J21 =>
  (((T15.a 11 (ni ((8 * r7) + s8))) = (T15.a 11 (ni ((8 * r7) + s13))) →
  tix 1 40 (4 + r7) ∧
  ((s8 < (T15.a 1 (ni (4 + r7))) →
  J21 0 T15) ∧ (¬ s8 < (T15.a 1 (ni (4 + r7))) →
  tix 1 40 (4 + r7) ∧
  ∀ m24 : Int32, m24 = (if (T15.a 1 (ni (4 + r7))) ≤ s13 then 0 else 1) →
  J21 m24 T15))) ∧ (¬ (T15.a 11 (ni ((8 * r7) + s8))) = (T15.a 11 (ni ((8 * r7) + s13))) →
  J21 0 T15))) (fun x27 T28 =>
  ((((m18 = 0) ∧ (x27 = 0)) →
  k13 (s13 + 1) T28) ∧ (¬ ((m18 = 0) ∧ (x27 = 0)) →
  tix 6 40 ((8 * s3) + s8) ∧
  tix 6 40 ((8 * s3) + s8) ∧
  ∀ T31, T31 = T28.sa 6 (ni ((8 * s3) + s8)) ((T28.a 6 (ni ((8 * s3) + s8))) ||| (jshl 1 ((8 * s3) + s13))) →
  k13 (s13 + 1) T31)))))) 0 T10))) 0 T6))) 0 T1
theorem hd_X1_addsVisits : yX1_addsVisits.cls = RX1 ∧ yX1_addsVisits.cls ≠ "java/lang/invoke/MethodHandle" ∧ yX1_addsVisits.cls ≠ "java/lang/invoke/VarHandle" ∧ (parseMethodDescriptor yX1_addsVisits.desc).map (fun d => d.parameters.length) = some 1 := by decide +kernel
theorem ok_X1_addsVisits {l : Launch} {D : va_G} {s0 : S0} (hG : G0 D s0) {o : Nat} {p0 : Int32} {T : TS} {Q : TS → Prop} (hw : wp_X1_addsVisits p0 T Q) : OKt l D s0 o yX1_addsVisits cX1_addsVisits 8 none 6 133 [vA (some o), vI p0] T (TV Q) := by
  refine t_met hG rfl rfl (L0 := [(0, vA (some o)), (1, vI p0)]) rfl rfl ?_
  intro h K C
  unfold wp_X1_addsVisits at hw
  refine t_b C (pc' := 1) (L' := [(0, vA (some o)), (1, vI p0)]) (st' := [vA (some o)]) [(.aload_n 0, 1)] ⟨dX1_addsVisits_0, rfl⟩ rfl ?_
  refine t_callVV C 4 [] [] dX1_addsVisits_1 rfl (ok_X1_laysAllVisits hG hw) q2657 q2659 qs112 q159 q2660 hd_X1_laysAllVisits ⟨rfl, rfl, rfl⟩ (fun T1 hw => ?_)
  refine t_b C (pc' := 6) (L' := [(2, vI 0), (0, vA (some o)), (1, vI p0)]) (st' := []) [(.iconst 0, 1), (.istore_n 2, 1)] ⟨dX1_addsVisits_4, dX1_addsVisits_5, rfl⟩ rfl ?_
  obtain ⟨I3, ⟨n3, hI3⟩, hB3⟩ := tlp.out hw
  refine t_sub C (L' := [(0, vA (some o)), (1, vI p0), (2, vI 0)]) [1, 2, 0] rfl ?_
  have key3 : ∀ (n : Nat) (s3 : Int32) (T4 : TS), I3 n s3 T4 → K 6 [(0, vA (some o)), (1, vI p0), (2, vI s3)] [] T4 := by
    intro n
    induction n using Nat.strongRecOn with
    | ind n ih3 =>
      intro s3 T4 hI
      replace hw := hB3 n s3 T4 hI
      refine t_b C (pc' := 8) (L' := [(0, vA (some o)), (1, vI p0), (2, vI s3)]) (st' := [vA (some o), vI s3]) [(.iload_n 2, 1), (.aload_n 0, 1)] ⟨dX1_addsVisits_6, dX1_addsVisits_7, rfl⟩ rfl ?_
      refine t_gA C 201 1 11 dX1_addsVisits_8 rfl rfl rfl rfl rfl q2189 (fun _ _ _ => rfl) ?_
      refine t_b C (pc' := 15) (L' := [(0, vA (some o)), (1, vI p0), (2, vI s3)]) (st' := [vI (32 + p0), vA (some (o + 1 + 1)), vI s3]) [(.bipush 32, 2), (.iload_n 1, 1), (.iadd, 1)] ⟨dX1_addsVisits_11, dX1_addsVisits_13, dX1_addsVisits_14, rfl⟩ rfl ?_
      refine t_iald C 16 dX1_addsVisits_15 rfl hw.1 ?_
      replace hw := hw.2
      refine t_icmp_gt C 201 19 dX1_addsVisits_16 rfl rfl (fun hc5 => ?_) (fun hc5 => ?_)
      · replace hw := hw.1 hc5
        exact t_vret C dX1_addsVisits_201 ⟨rfl, hw⟩
      · replace hw := hw.2 hc5
        refine t_b C (pc' := 20) (L' := [(0, vA (some o)), (1, vI p0), (2, vI s3)]) (st' := [vA (some o)]) [(.aload_n 0, 1)] ⟨dX1_addsVisits_19, rfl⟩ rfl ?_
        refine t_gA C 201 1 23 dX1_addsVisits_20 rfl rfl rfl rfl rfl q2189 (fun _ _ _ => rfl) ?_
        refine t_b C (pc' := 25) (L' := [(0, vA (some o)), (1, vI p0), (2, vI s3)]) (st' := [vI s3, vI p0, vA (some (o + 1 + 1))]) [(.iload_n 1, 1), (.iload_n 2, 1)] ⟨dX1_addsVisits_23, dX1_addsVisits_24, rfl⟩ rfl ?_
        refine t_callSI C 28 [vA (some (o + 1 + 1)), vI p0, vI s3] [] dX1_addsVisits_25 rfl (ok_X1_symbolAt hG hw) q2520 q2521 q159 q2522 hd_X1_symbolAt ⟨rfl, rfl, rfl⟩ (fun r7 T6 hw => ?_)
        refine t_b C (pc' := 32) (L' := [(4, vI 0), (3, vI r7), (0, vA (some o)), (1, vI p0), (2, vI s3)]) (st' := []) [(.istore_n 3, 1), (.iconst 0, 1), (.istore 4, 2)] ⟨dX1_addsVisits_28, dX1_addsVisits_29, dX1_addsVisits_30, rfl⟩ rfl ?_
        obtain ⟨I8, ⟨n8, hI8⟩, hB8⟩ := tlp.out hw
        refine t_sub C (L' := [(0, vA (some o)), (1, vI p0), (2, vI s3), (3, vI r7), (4, vI 0)]) [2, 3, 4, 1, 0] rfl ?_
        have key8 : ∀ (n : Nat) (s8 : Int32) (T9 : TS), I8 n s8 T9 → K 32 [(0, vA (some o)), (1, vI p0), (2, vI s3), (3, vI r7), (4, vI s8)] [] T9 := by
          intro n
          induction n using Nat.strongRecOn with
          | ind n ih8 =>
            intro s8 T9 hI
            replace hw := hB8 n s8 T9 hI
            refine t_b C (pc' := 36) (L' := [(0, vA (some o)), (1, vI p0), (2, vI s3), (3, vI r7), (4, vI s8)]) (st' := [vI r7, vA (some o), vI s8]) [(.iload 4, 2), (.aload_n 0, 1), (.iload_n 3, 1)] ⟨dX1_addsVisits_32, dX1_addsVisits_34, dX1_addsVisits_35, rfl⟩ rfl ?_
            refine t_callVI C 39 [vI r7] [vI s8] dX1_addsVisits_36 rfl (ok_X1_attributes hG hw) q2578 q2580 qs98 q159 q2581 hd_X1_attributes ⟨rfl, rfl, rfl⟩ (fun r11 T10 hw => ?_)
            refine t_icmp_ge C 195 42 dX1_addsVisits_39 rfl rfl (fun hc12 => ?_) (fun hc12 => ?_)
            · replace hw := hw.1 hc12
              refine t_b C (pc' := 198) (L' := [(2, vI (s3 + 1)), (0, vA (some o)), (1, vI p0), (3, vI r7), (4, vI s8)]) (st' := []) [(.iinc 2 1, 3)] ⟨dX1_addsVisits_195, rfl⟩ rfl ?_
              refine t_goto C 6 dX1_addsVisits_198 rfl ?_
              refine t_sub C (L' := [(0, vA (some o)), (1, vI p0), (2, vI (s3 + 1))]) [1, 2, 0] rfl ?_
              obtain ⟨m9, hm9, hw⟩ := hw
              exact ih3 m9 hm9 (s3 + 1) T10 hw
            · replace hw := hw.2 hc12
              refine t_b C (pc' := 45) (L' := [(5, vI 0), (0, vA (some o)), (1, vI p0), (2, vI s3), (3, vI r7), (4, vI s8)]) (st' := []) [(.iconst 0, 1), (.istore 5, 2)] ⟨dX1_addsVisits_42, dX1_addsVisits_43, rfl⟩ rfl ?_
              obtain ⟨I13, ⟨n13, hI13⟩, hB13⟩ := tlp.out hw
              refine t_sub C (L' := [(0, vA (some o)), (1, vI p0), (2, vI s3), (3, vI r7), (4, vI s8), (5, vI 0)]) [1, 2, 3, 4, 5, 0] rfl ?_
              have key13 : ∀ (n : Nat) (s13 : Int32) (T14 : TS), I13 n s13 T14 → K 45 [(0, vA (some o)), (1, vI p0), (2, vI s3), (3, vI r7), (4, vI s8), (5, vI s13)] [] T14 := by
                intro n
                induction n using Nat.strongRecOn with
                | ind n ih13 =>
                  intro s13 T14 hI
                  replace hw := hB13 n s13 T14 hI
                  refine t_b C (pc' := 49) (L' := [(0, vA (some o)), (1, vI p0), (2, vI s3), (3, vI r7), (4, vI s8), (5, vI s13)]) (st' := [vI r7, vA (some o), vI s13]) [(.iload 5, 2), (.aload_n 0, 1), (.iload_n 3, 1)] ⟨dX1_addsVisits_45, dX1_addsVisits_47, dX1_addsVisits_48, rfl⟩ rfl ?_
                  refine t_callVI C 52 [vI r7] [vI s13] dX1_addsVisits_49 rfl (ok_X1_attributes hG hw) q2578 q2580 qs98 q159 q2581 hd_X1_attributes ⟨rfl, rfl, rfl⟩ (fun r16 T15 hw => ?_)
                  refine t_icmp_ge C 189 55 dX1_addsVisits_52 rfl rfl (fun hc17 => ?_) (fun hc17 => ?_)
                  · replace hw := hw.1 hc17
                    refine t_b C (pc' := 192) (L' := [(4, vI (s8 + 1)), (0, vA (some o)), (1, vI p0), (2, vI s3), (3, vI r7), (5, vI s13)]) (st' := []) [(.iinc 4 1, 3)] ⟨dX1_addsVisits_189, rfl⟩ rfl ?_
                    refine t_goto C 32 dX1_addsVisits_192 rfl ?_
                    refine t_sub C (L' := [(0, vA (some o)), (1, vI p0), (2, vI s3), (3, vI r7), (4, vI (s8 + 1))]) [1, 2, 3, 4, 0] rfl ?_
                    obtain ⟨m9, hm9, hw⟩ := hw
                    exact ih8 m9 hm9 (s8 + 1) T15 hw
                  · replace hw := hw.2 hc17
                    refine t_b C (pc' := 56) (L' := [(0, vA (some o)), (1, vI p0), (2, vI s3), (3, vI r7), (4, vI s8), (5, vI s13)]) (st' := [vA (some o)]) [(.aload_n 0, 1)] ⟨dX1_addsVisits_55, rfl⟩ rfl ?_
                    refine t_gA C 229 11 59 dX1_addsVisits_56 rfl rfl rfl rfl rfl q2217 (fun _ _ _ => rfl) ?_
                    refine t_b C (pc' := 66) (L' := [(0, vA (some o)), (1, vI p0), (2, vI s3), (3, vI r7), (4, vI s8), (5, vI s13)]) (st' := [vI ((8 * r7) + s8), vA (some (o + 1 + 11))]) [(.bipush 8, 2), (.iload_n 3, 1), (.imul, 1), (.iload 4, 2), (.iadd, 1)] ⟨dX1_addsVisits_59, dX1_addsVisits_61, dX1_addsVisits_62, dX1_addsVisits_63, dX1_addsVisits_65, rfl⟩ rfl ?_
                    refine t_iald C 67 dX1_addsVisits_66 rfl hw.1 ?_
                    replace hw := hw.2
                    refine t_b C (pc' := 68) (L' := [(0, vA (some o)), (1, vI p0), (2, vI s3), (3, vI r7), (4, vI s8), (5, vI s13)]) (st' := [vA (some o), vI (T15.a 11 (ni ((8 * r7) + s8)))]) [(.aload_n 0, 1)] ⟨dX1_addsVisits_67, rfl⟩ rfl ?_
                    refine t_gA C 229 11 71 dX1_addsVisits_68 rfl rfl rfl rfl rfl q2217 (fun _ _ _ => rfl) ?_
                    refine t_b C (pc' := 78) (L' := [(0, vA (some o)), (1, vI p0), (2, vI s3), (3, vI r7), (4, vI s8), (5, vI s13)]) (st' := [vI ((8 * r7) + s13), vA (some (o + 1 + 11)), vI (T15.a 11 (ni ((8 * r7) + s8)))]) [(.bipush 8, 2), (.iload_n 3, 1), (.imul, 1), (.iload 5, 2), (.iadd, 1)] ⟨dX1_addsVisits_71, dX1_addsVisits_73, dX1_addsVisits_74, dX1_addsVisits_75, dX1_addsVisits_77, rfl⟩ rfl ?_
                    refine t_iald C 79 dX1_addsVisits_78 rfl hw.1 ?_
                    replace hw := hw.2
                    have kj19 : ∀ (m18 : Int32), m18 = (if (T15.a 11 (ni ((8 * r7) + s8))) ≤ (T15.a 11 (ni ((8 * r7) + s13))) then 0 else 1) → K 87 [(0, vA (some o)), (1, vI p0), (2, vI s3), (3, vI r7), (4, vI s8), (5, vI s13)] [vI m18] T15 := by
                      intro m18 em18
                      replace hw := hw m18 em18
                      refine t_b C (pc' := 90) (L' := [(6, vI m18), (0, vA (some o)), (1, vI p0), (2, vI s3), (3, vI r7), (4, vI s8), (5, vI s13)]) (st' := [vA (some o)]) [(.istore 6, 2), (.aload_n 0, 1)] ⟨dX1_addsVisits_87, dX1_addsVisits_89, rfl⟩ rfl ?_
                      refine t_gA C 229 11 93 dX1_addsVisits_90 rfl rfl rfl rfl rfl q2217 (fun _ _ _ => rfl) ?_
                      refine t_b C (pc' := 100) (L' := [(6, vI m18), (0, vA (some o)), (1, vI p0), (2, vI s3), (3, vI r7), (4, vI s8), (5, vI s13)]) (st' := [vI ((8 * r7) + s8), vA (some (o + 1 + 11))]) [(.bipush 8, 2), (.iload_n 3, 1), (.imul, 1), (.iload 4, 2), (.iadd, 1)] ⟨dX1_addsVisits_93, dX1_addsVisits_95, dX1_addsVisits_96, dX1_addsVisits_97, dX1_addsVisits_99, rfl⟩ rfl ?_
                      refine t_iald C 101 dX1_addsVisits_100 rfl hw.1 ?_
                      replace hw := hw.2
                      refine t_b C (pc' := 102) (L' := [(6, vI m18), (0, vA (some o)), (1, vI p0), (2, vI s3), (3, vI r7), (4, vI s8), (5, vI s13)]) (st' := [vA (some o), vI (T15.a 11 (ni ((8 * r7) + s8)))]) [(.aload_n 0, 1)] ⟨dX1_addsVisits_101, rfl⟩ rfl ?_
                      refine t_gA C 229 11 105 dX1_addsVisits_102 rfl rfl rfl rfl rfl q2217 (fun _ _ _ => rfl) ?_
                      refine t_b C (pc' := 112) (L' := [(6, vI m18), (0, vA (some o)), (1, vI p0), (2, vI s3), (3, vI r7), (4, vI s8), (5, vI s13)]) (st' := [vI ((8 * r7) + s13), vA (some (o + 1 + 11)), vI (T15.a 11 (ni ((8 * r7) + s8)))]) [(.bipush 8, 2), (.iload_n 3, 1), (.imul, 1), (.iload 5, 2), (.iadd, 1)] ⟨dX1_addsVisits_105, dX1_addsVisits_107, dX1_addsVisits_108, dX1_addsVisits_109, dX1_addsVisits_111, rfl⟩ rfl ?_
                      refine t_iald C 113 dX1_addsVisits_112 rfl hw.1 ?_
                      replace hw := hw.2
                      obtain ⟨J21, hw, hJ21⟩ := tjn.out hw
                      have kj20 : ∀ (x27 : Int32) (T28 : TS), J21 x27 T28 → K 147 [(0, vA (some o)), (1, vI p0), (2, vI s3), (3, vI r7), (4, vI s8), (5, vI s13), (6, vI m18)] [vI x27] T28 := by
                        intro x27 T28 hj
                        replace hw := hJ21 x27 T28 hj
                        refine t_b C (pc' := 151) (L' := [(7, vI x27), (0, vA (some o)), (1, vI p0), (2, vI s3), (3, vI r7), (4, vI s8), (5, vI s13), (6, vI m18)]) (st' := [vI m18]) [(.istore 7, 2), (.iload 6, 2)] ⟨dX1_addsVisits_147, dX1_addsVisits_149, rfl⟩ rfl ?_
                        have kx29 : ((m18 = 0) ∧ (x27 = 0)) → K 183 [(7, vI x27), (0, vA (some o)), (1, vI p0), (2, vI s3), (3, vI r7), (4, vI s8), (5, vI s13), (6, vI m18)] [] T28 := by
                          intro hcc
                          replace hw := hw.1 hcc
                          refine t_b C (pc' := 186) (L' := [(5, vI (s13 + 1)), (7, vI x27), (0, vA (some o)), (1, vI p0), (2, vI s3), (3, vI r7), (4, vI s8), (6, vI m18)]) (st' := []) [(.iinc 5 1, 3)] ⟨dX1_addsVisits_183, rfl⟩ rfl ?_
                          refine t_goto C 45 dX1_addsVisits_186 rfl ?_
                          refine t_sub C (L' := [(0, vA (some o)), (1, vI p0), (2, vI s3), (3, vI r7), (4, vI s8), (5, vI (s13 + 1))]) [2, 3, 4, 5, 6, 0] rfl ?_
                          obtain ⟨m9, hm9, hw⟩ := hw
                          exact ih13 m9 hm9 (s13 + 1) T28 hw
                        have ky30 : ¬ ((m18 = 0) ∧ (x27 = 0)) → K 159 [(7, vI x27), (0, vA (some o)), (1, vI p0), (2, vI s3), (3, vI r7), (4, vI s8), (5, vI s13), (6, vI m18)] [] T28 := by
                          intro hcc
                          replace hw := hw.2 hcc
                          refine t_b C (pc' := 160) (L' := [(7, vI x27), (0, vA (some o)), (1, vI p0), (2, vI s3), (3, vI r7), (4, vI s8), (5, vI s13), (6, vI m18)]) (st' := [vA (some o)]) [(.aload_n 0, 1)] ⟨dX1_addsVisits_159, rfl⟩ rfl ?_
                          refine t_gA C 223 6 163 dX1_addsVisits_160 rfl rfl rfl rfl rfl q2211 (fun _ _ _ => rfl) ?_
                          refine t_b C (pc' := 171) (L' := [(7, vI x27), (0, vA (some o)), (1, vI p0), (2, vI s3), (3, vI r7), (4, vI s8), (5, vI s13), (6, vI m18)]) (st' := [vI ((8 * s3) + s8), vA (some (o + 1 + 6)), vI ((8 * s3) + s8), vA (some (o + 1 + 6))]) [(.bipush 8, 2), (.iload_n 2, 1), (.imul, 1), (.iload 4, 2), (.iadd, 1), (.dup2, 1)] ⟨dX1_addsVisits_163, dX1_addsVisits_165, dX1_addsVisits_166, dX1_addsVisits_167, dX1_addsVisits_169, dX1_addsVisits_170, rfl⟩ rfl ?_
                          refine t_iald C 172 dX1_addsVisits_171 rfl hw.1 ?_
                          replace hw := hw.2
                          refine t_b C (pc' := 182) (L' := [(7, vI x27), (0, vA (some o)), (1, vI p0), (2, vI s3), (3, vI r7), (4, vI s8), (5, vI s13), (6, vI m18)]) (st' := [vI ((T28.a 6 (ni ((8 * s3) + s8))) ||| (jshl 1 ((8 * s3) + s13))), vI ((8 * s3) + s8), vA (some (o + 1 + 6))]) [(.iconst 1, 1), (.bipush 8, 2), (.iload_n 2, 1), (.imul, 1), (.iload 5, 2), (.iadd, 1), (.ishl, 1), (.ior, 1)] ⟨dX1_addsVisits_172, dX1_addsVisits_173, dX1_addsVisits_175, dX1_addsVisits_176, dX1_addsVisits_177, dX1_addsVisits_179, dX1_addsVisits_180, dX1_addsVisits_181, rfl⟩ rfl ?_
                          refine t_iast C 183 dX1_addsVisits_182 rfl hw.1 (fun T31 eT31 => ?_)
                          replace hw := hw.2 T31 eT31
                          refine t_b C (pc' := 186) (L' := [(5, vI (s13 + 1)), (7, vI x27), (0, vA (some o)), (1, vI p0), (2, vI s3), (3, vI r7), (4, vI s8), (6, vI m18)]) (st' := []) [(.iinc 5 1, 3)] ⟨dX1_addsVisits_183, rfl⟩ rfl ?_
                          refine t_goto C 45 dX1_addsVisits_186 rfl ?_
                          refine t_sub C (L' := [(0, vA (some o)), (1, vI p0), (2, vI s3), (3, vI r7), (4, vI s8), (5, vI (s13 + 1))]) [2, 3, 4, 5, 6, 0] rfl ?_
                          obtain ⟨m9, hm9, hw⟩ := hw
                          exact ih13 m9 hm9 (s13 + 1) T31 hw
                        refine t_if_ne C 159 154 dX1_addsVisits_151 rfl rfl (fun hc32 => ?_) (fun hc32 => ?_)
                        · exact ky30 (fun h0 => hc32 h0.1)
                        · refine t_b C (pc' := 156) (L' := [(7, vI x27), (0, vA (some o)), (1, vI p0), (2, vI s3), (3, vI r7), (4, vI s8), (5, vI s13), (6, vI m18)]) (st' := [vI x27]) [(.iload 7, 2)] ⟨dX1_addsVisits_154, rfl⟩ rfl ?_
                          refine t_if_eq C 183 159 dX1_addsVisits_156 rfl rfl (fun hc33 => ?_) (fun hc33 => ?_)
                          · exact kx29 ⟨hc32, hc33⟩
                          · exact ky30 (fun h0 => hc33 h0.2)
                      refine t_icmp_ne C 146 116 dX1_addsVisits_113 rfl rfl (fun hc22 => ?_) (fun hc22 => ?_)
                      · replace hw := hw.2 hc22
                        refine t_b C (pc' := 147) (L' := [(6, vI m18), (0, vA (some o)), (1, vI p0), (2, vI s3), (3, vI r7), (4, vI s8), (5, vI s13)]) (st' := [vI 0]) [(.iconst 0, 1)] ⟨dX1_addsVisits_146, rfl⟩ rfl ?_
                        refine t_sub C (L' := [(0, vA (some o)), (1, vI p0), (2, vI s3), (3, vI r7), (4, vI s8), (5, vI s13), (6, vI m18)]) [1, 2, 3, 4, 5, 6, 0] rfl ?_
                        exact kj20 0 T15 hw
                      · replace hw := hw.1 hc22
                        refine t_b C (pc' := 119) (L' := [(6, vI m18), (0, vA (some o)), (1, vI p0), (2, vI s3), (3, vI r7), (4, vI s8), (5, vI s13)]) (st' := [vA (some o), vI s8]) [(.iload 4, 2), (.aload_n 0, 1)] ⟨dX1_addsVisits_116, dX1_addsVisits_118, rfl⟩ rfl ?_
                        refine t_gA C 201 1 122 dX1_addsVisits_119 rfl rfl rfl rfl rfl q2189 (fun _ _ _ => rfl) ?_
                        refine t_b C (pc' := 125) (L' := [(6, vI m18), (0, vA (some o)), (1, vI p0), (2, vI s3), (3, vI r7), (4, vI s8), (5, vI s13)]) (st' := [vI (4 + r7), vA (some (o + 1 + 1)), vI s8]) [(.iconst 4, 1), (.iload_n 3, 1), (.iadd, 1)] ⟨dX1_addsVisits_122, dX1_addsVisits_123, dX1_addsVisits_124, rfl⟩ rfl ?_
                        refine t_iald C 126 dX1_addsVisits_125 rfl hw.1 ?_
                        replace hw := hw.2
                        refine t_icmp_lt C 146 129 dX1_addsVisits_126 rfl rfl (fun hc23 => ?_) (fun hc23 => ?_)
                        · replace hw := hw.1 hc23
                          refine t_b C (pc' := 147) (L' := [(6, vI m18), (0, vA (some o)), (1, vI p0), (2, vI s3), (3, vI r7), (4, vI s8), (5, vI s13)]) (st' := [vI 0]) [(.iconst 0, 1)] ⟨dX1_addsVisits_146, rfl⟩ rfl ?_
                          refine t_sub C (L' := [(0, vA (some o)), (1, vI p0), (2, vI s3), (3, vI r7), (4, vI s8), (5, vI s13), (6, vI m18)]) [1, 2, 3, 4, 5, 6, 0] rfl ?_
                          exact kj20 0 T15 hw
                        · replace hw := hw.2 hc23
                          refine t_b C (pc' := 132) (L' := [(6, vI m18), (0, vA (some o)), (1, vI p0), (2, vI s3), (3, vI r7), (4, vI s8), (5, vI s13)]) (st' := [vA (some o), vI s13]) [(.iload 5, 2), (.aload_n 0, 1)] ⟨dX1_addsVisits_129, dX1_addsVisits_131, rfl⟩ rfl ?_
                          refine t_gA C 201 1 135 dX1_addsVisits_132 rfl rfl rfl rfl rfl q2189 (fun _ _ _ => rfl) ?_
                          refine t_b C (pc' := 138) (L' := [(6, vI m18), (0, vA (some o)), (1, vI p0), (2, vI s3), (3, vI r7), (4, vI s8), (5, vI s13)]) (st' := [vI (4 + r7), vA (some (o + 1 + 1)), vI s13]) [(.iconst 4, 1), (.iload_n 3, 1), (.iadd, 1)] ⟨dX1_addsVisits_135, dX1_addsVisits_136, dX1_addsVisits_137, rfl⟩ rfl ?_
                          refine t_iald C 139 dX1_addsVisits_138 rfl hw.1 ?_
                          replace hw := hw.2
                          have kj25 : ∀ (m24 : Int32), m24 = (if (T15.a 1 (ni (4 + r7))) ≤ s13 then 0 else 1) → K 147 [(0, vA (some o)), (1, vI p0), (2, vI s3), (3, vI r7), (4, vI s8), (5, vI s13), (6, vI m18)] [vI m24] T15 := by
                            intro m24 em24
                            replace hw := hw m24 em24
                            refine t_sub C (L' := [(0, vA (some o)), (1, vI p0), (2, vI s3), (3, vI r7), (4, vI s8), (5, vI s13), (6, vI m18)]) [0, 1, 2, 3, 4, 5, 6] rfl ?_
                            exact kj20 m24 T15 hw
                          refine t_icmp_ge C 146 142 dX1_addsVisits_139 rfl rfl (fun hc26 => ?_) (fun hc26 => ?_)
                          · refine t_b C (pc' := 147) (L' := [(6, vI m18), (0, vA (some o)), (1, vI p0), (2, vI s3), (3, vI r7), (4, vI s8), (5, vI s13)]) (st' := [vI 0]) [(.iconst 0, 1)] ⟨dX1_addsVisits_146, rfl⟩ rfl ?_
                            refine t_sub C (L' := [(0, vA (some o)), (1, vI p0), (2, vI s3), (3, vI r7), (4, vI s8), (5, vI s13), (6, vI m18)]) [1, 2, 3, 4, 5, 6, 0] rfl ?_
                            exact kj25 _ ((if_pos hc26).symm)
                          · refine t_b C (pc' := 143) (L' := [(6, vI m18), (0, vA (some o)), (1, vI p0), (2, vI s3), (3, vI r7), (4, vI s8), (5, vI s13)]) (st' := [vI 1]) [(.iconst 1, 1)] ⟨dX1_addsVisits_142, rfl⟩ rfl ?_
                            refine t_goto C 147 dX1_addsVisits_143 rfl ?_
                            refine t_sub C (L' := [(0, vA (some o)), (1, vI p0), (2, vI s3), (3, vI r7), (4, vI s8), (5, vI s13), (6, vI m18)]) [1, 2, 3, 4, 5, 6, 0] rfl ?_
                            exact kj25 _ ((if_neg hc26).symm)
                    refine t_icmp_le C 86 82 dX1_addsVisits_79 rfl rfl (fun hc34 => ?_) (fun hc34 => ?_)
                    · refine t_b C (pc' := 87) (L' := [(0, vA (some o)), (1, vI p0), (2, vI s3), (3, vI r7), (4, vI s8), (5, vI s13)]) (st' := [vI 0]) [(.iconst 0, 1)] ⟨dX1_addsVisits_86, rfl⟩ rfl ?_
                      refine t_sub C (L' := [(0, vA (some o)), (1, vI p0), (2, vI s3), (3, vI r7), (4, vI s8), (5, vI s13)]) [0, 1, 2, 3, 4, 5] rfl ?_
                      exact kj19 _ ((if_pos hc34).symm)
                    · refine t_b C (pc' := 83) (L' := [(0, vA (some o)), (1, vI p0), (2, vI s3), (3, vI r7), (4, vI s8), (5, vI s13)]) (st' := [vI 1]) [(.iconst 1, 1)] ⟨dX1_addsVisits_82, rfl⟩ rfl ?_
                      refine t_goto C 87 dX1_addsVisits_83 rfl ?_
                      refine t_sub C (L' := [(0, vA (some o)), (1, vI p0), (2, vI s3), (3, vI r7), (4, vI s8), (5, vI s13)]) [0, 1, 2, 3, 4, 5] rfl ?_
                      exact kj19 _ ((if_neg hc34).symm)
              exact key13 n13 0 T10 hI13
        exact key8 n8 0 T6 hI8
  exact key3 n3 0 T1 hI3
def wp_X1_gives (p0 : Int32) (T : TS) (Q : Int32 → TS → Prop) : Prop :=
  ∀ T1, T1 = T.ss 206 0 →
  Q p0 T1
theorem hd_X1_gives : yX1_gives.cls = RX1 ∧ yX1_gives.cls ≠ "java/lang/invoke/MethodHandle" ∧ yX1_gives.cls ≠ "java/lang/invoke/VarHandle" ∧ (parseMethodDescriptor yX1_gives.desc).map (fun d => d.parameters.length) = some 1 := by decide +kernel
theorem ok_X1_gives {l : Launch} {D : va_G} {s0 : S0} (hG : G0 D s0) {o : Nat} {p0 : Int32} {T : TS} {Q : Int32 → TS → Prop} (hw : wp_X1_gives p0 T Q) : OKt l D s0 o yX1_gives cX1_gives 2 (some .int) 0 0 [vA (some o), vI p0] T (TI Q) := by
  refine t_met hG rfl rfl (L0 := [(0, vA (some o)), (1, vI p0)]) rfl rfl ?_
  intro h K C
  unfold wp_X1_gives at hw
  refine t_b C (pc' := 2) (L' := [(0, vA (some o)), (1, vI p0)]) (st' := [vI 0, vA (some o)]) [(.aload_n 0, 1), (.iconst 0, 1)] ⟨dX1_gives_0, dX1_gives_1, rfl⟩ rfl ?_
  refine t_pI C 206 5 dX1_gives_2 rfl rfl rfl rfl q2194 (fun _ _ _ => rfl) rfl rfl (fun T1 eT1 => ?_)
  replace hw := hw T1 eT1
  refine t_b C (pc' := 6) (L' := [(0, vA (some o)), (1, vI p0)]) (st' := [vI p0]) [(.iload_n 1, 1)] ⟨dX1_gives_5, rfl⟩ rfl ?_
  exact t_iret C dX1_gives_6 ⟨_, rfl, hw⟩
def wp_X1_hasTree  (T : TS) (Q : Int32 → TS → Prop) : Prop :=
  ∀ m1 : Int32, m1 = (if (T.s 250) ≤ 0 then 0 else 1) →
  bz m1 ∧ Q m1 T
theorem hd_X1_hasTree : yX1_hasTree.cls = RX1 ∧ yX1_hasTree.cls ≠ "java/lang/invoke/MethodHandle" ∧ yX1_hasTree.cls ≠ "java/lang/invoke/VarHandle" ∧ (parseMethodDescriptor yX1_hasTree.desc).map (fun d => d.parameters.length) = some 0 := by decide +kernel
theorem ok_X1_hasTree {l : Launch} {D : va_G} {s0 : S0} (hG : G0 D s0) {o : Nat}  {T : TS} {Q : Int32 → TS → Prop} (hw : wp_X1_hasTree  T Q) : OKt l D s0 o yX1_hasTree cX1_hasTree 1 (some .boolean) 0 0 [vA (some o)] T (TI Q) := by
  refine t_met hG rfl rfl (L0 := [(0, vA (some o))]) rfl rfl ?_
  intro h K C
  unfold wp_X1_hasTree at hw
  refine t_b C (pc' := 1) (L' := [(0, vA (some o))]) (st' := [vA (some o)]) [(.aload_n 0, 1)] ⟨dX1_hasTree_0, rfl⟩ rfl ?_
  refine t_gI C 250 4 dX1_hasTree_1 rfl rfl rfl q2238 (fun _ _ _ => rfl) ?_
  have kj2 : ∀ (m1 : Int32), m1 = (if (T.s 250) ≤ 0 then 0 else 1) → K 12 [] [vI m1] T := by
    intro m1 em1
    replace hw := hw m1 em1
    exact t_zret C dX1_hasTree_12 (bz_n hw.1) ⟨_, rfl, hw.2⟩
  refine t_if_le C 11 7 dX1_hasTree_4 rfl rfl (fun hc3 => ?_) (fun hc3 => ?_)
  · refine t_b C (pc' := 12) (L' := [(0, vA (some o))]) (st' := [vI 0]) [(.iconst 0, 1)] ⟨dX1_hasTree_11, rfl⟩ rfl ?_
    refine t_sub C (L' := []) [] rfl ?_
    exact kj2 _ ((if_pos hc3).symm)
  · refine t_b C (pc' := 8) (L' := [(0, vA (some o))]) (st' := [vI 1]) [(.iconst 1, 1)] ⟨dX1_hasTree_7, rfl⟩ rfl ?_
    refine t_goto C 12 dX1_hasTree_8 rfl ?_
    refine t_sub C (L' := []) [] rfl ?_
    exact kj2 _ ((if_neg hc3).symm)
def wp_X1_isFrom (p0 : Int32) (p1 : Int32) (p2 : Int32) (T : TS) (Q : Int32 → TS → Prop) : Prop :=
  ∀ m1 : Int32, m1 = (if p0 < p1 then 0 else (if p2 < p0 then 0 else 1)) →
  bz m1 ∧ Q m1 T
theorem hd_X1_isFrom : yX1_isFrom.cls ≠ "java/lang/invoke/MethodHandle" ∧ yX1_isFrom.cls ≠ "java/lang/invoke/VarHandle" ∧ (parseMethodDescriptor yX1_isFrom.desc).map (fun d => d.parameters.length) = some 3 := by decide +kernel
theorem ok_X1_isFrom {l : Launch} {D : va_G} {s0 : S0} (hG : G0 D s0) {o : Nat} {p0 : Int32} {p1 : Int32} {p2 : Int32} {T : TS} {Q : Int32 → TS → Prop} (hw : wp_X1_isFrom p0 p1 p2 T Q) : OKt l D s0 o yX1_isFrom cX1_isFrom 3 (some .boolean) 0 0 [vI p0, vI p1, vI p2] T (TI Q) := by
  refine t_met hG rfl rfl (L0 := [(0, vI p0), (1, vI p1), (2, vI p2)]) rfl rfl ?_
  intro h K C
  unfold wp_X1_isFrom at hw
  refine t_b C (pc' := 2) (L' := [(0, vI p0), (1, vI p1), (2, vI p2)]) (st' := [vI p1, vI p0]) [(.iload_n 0, 1), (.iload_n 1, 1)] ⟨dX1_isFrom_0, dX1_isFrom_1, rfl⟩ rfl ?_
  have kj2 : ∀ (m1 : Int32), m1 = (if p0 < p1 then 0 else (if p2 < p0 then 0 else 1)) → K 15 [] [vI m1] T := by
    intro m1 em1
    replace hw := hw m1 em1
    exact t_zret C dX1_isFrom_15 (bz_n hw.1) ⟨_, rfl, hw.2⟩
  refine t_icmp_lt C 14 5 dX1_isFrom_2 rfl rfl (fun hc3 => ?_) (fun hc3 => ?_)
  · refine t_b C (pc' := 15) (L' := [(0, vI p0), (1, vI p1), (2, vI p2)]) (st' := [vI 0]) [(.iconst 0, 1)] ⟨dX1_isFrom_14, rfl⟩ rfl ?_
    refine t_sub C (L' := []) [] rfl ?_
    exact kj2 _ ((if_pos hc3).symm)
  · refine t_b C (pc' := 7) (L' := [(0, vI p0), (1, vI p1), (2, vI p2)]) (st' := [vI p2, vI p0]) [(.iload_n 0, 1), (.iload_n 2, 1)] ⟨dX1_isFrom_5, dX1_isFrom_6, rfl⟩ rfl ?_
    refine t_icmp_gt C 14 10 dX1_isFrom_7 rfl rfl (fun hc4 => ?_) (fun hc4 => ?_)
    · refine t_b C (pc' := 15) (L' := [(0, vI p0), (1, vI p1), (2, vI p2)]) (st' := [vI 0]) [(.iconst 0, 1)] ⟨dX1_isFrom_14, rfl⟩ rfl ?_
      refine t_sub C (L' := []) [] rfl ?_
      exact kj2 _ (((if_pos hc4).symm).trans ((if_neg hc3).symm))
    · refine t_b C (pc' := 11) (L' := [(0, vI p0), (1, vI p1), (2, vI p2)]) (st' := [vI 1]) [(.iconst 1, 1)] ⟨dX1_isFrom_10, rfl⟩ rfl ?_
      refine t_goto C 15 dX1_isFrom_11 rfl ?_
      refine t_sub C (L' := []) [] rfl ?_
      exact kj2 _ (((if_neg hc4).symm).trans ((if_neg hc3).symm))
def wp_X1_refuse (p0 : Int32) (T : TS) (Q : Int32 → TS → Prop) : Prop :=
  ∀ T1, T1 = T.ss 206 p0 →
  Q (-1) T1
theorem hd_X1_refuse : yX1_refuse.cls = RX1 ∧ yX1_refuse.cls ≠ "java/lang/invoke/MethodHandle" ∧ yX1_refuse.cls ≠ "java/lang/invoke/VarHandle" ∧ (parseMethodDescriptor yX1_refuse.desc).map (fun d => d.parameters.length) = some 1 := by decide +kernel
theorem ok_X1_refuse {l : Launch} {D : va_G} {s0 : S0} (hG : G0 D s0) {o : Nat} {p0 : Int32} {T : TS} {Q : Int32 → TS → Prop} (hw : wp_X1_refuse p0 T Q) : OKt l D s0 o yX1_refuse cX1_refuse 2 (some .int) 0 0 [vA (some o), vI p0] T (TI Q) := by
  refine t_met hG rfl rfl (L0 := [(0, vA (some o)), (1, vI p0)]) rfl rfl ?_
  intro h K C
  unfold wp_X1_refuse at hw
  refine t_b C (pc' := 2) (L' := [(0, vA (some o)), (1, vI p0)]) (st' := [vI p0, vA (some o)]) [(.aload_n 0, 1), (.iload_n 1, 1)] ⟨dX1_refuse_0, dX1_refuse_1, rfl⟩ rfl ?_
  refine t_pI C 206 5 dX1_refuse_2 rfl rfl rfl rfl q2194 (fun _ _ _ => rfl) rfl rfl (fun T1 eT1 => ?_)
  replace hw := hw T1 eT1
  refine t_b C (pc' := 6) (L' := [(0, vA (some o)), (1, vI p0)]) (st' := [vI (-1)]) [(.iconst (-1), 1)] ⟨dX1_refuse_5, rfl⟩ rfl ?_
  exact t_iret C dX1_refuse_6 ⟨_, rfl, hw⟩
def wp_X1_anew (p0 : Int32) (T : TS) (Q : Int32 → TS → Prop) : Prop :=
  wp_X1_isFrom p0 0 1 T fun r2 T1 =>
  ((r2 = 0 →
  wp_X1_refuse 1 T1 fun r18 T17 =>
  Q r18 T17) ∧ (¬ r2 = 0 →
  wp_X1_hasTree  T1 fun r5 T4 =>
  ((r5 = 0 →
  wp_X1_refuse 3 T4 fun r16 T15 =>
  Q r16 T15) ∧ (¬ r5 = 0 →
  (((T4.s 253) = 0 →
  wp_X1_refuse 7 T4 fun r14 T13 =>
  Q r14 T13) ∧ (¬ (T4.s 253) = 0 →
  ∀ m8 : Int32, m8 = (if p0 = 0 then (T4.s 254) else (T4.s 255)) →
  wp_X1_gives m8 T4 fun r11 T10 =>
  Q r11 T10))))))
theorem hd_X1_anew : yX1_anew.cls = RX1 ∧ yX1_anew.cls ≠ "java/lang/invoke/MethodHandle" ∧ yX1_anew.cls ≠ "java/lang/invoke/VarHandle" ∧ (parseMethodDescriptor yX1_anew.desc).map (fun d => d.parameters.length) = some 1 := by decide +kernel
theorem ok_X1_anew {l : Launch} {D : va_G} {s0 : S0} (hG : G0 D s0) {o : Nat} {p0 : Int32} {T : TS} {Q : Int32 → TS → Prop} (hw : wp_X1_anew p0 T Q) : OKt l D s0 o yX1_anew cX1_anew 2 (some .int) 1 22 [vA (some o), vI p0] T (TI Q) := by
  refine t_met hG rfl rfl (L0 := [(0, vA (some o)), (1, vI p0)]) rfl rfl ?_
  intro h K C
  unfold wp_X1_anew at hw
  refine t_b C (pc' := 3) (L' := [(0, vA (some o)), (1, vI p0)]) (st' := [vI 1, vI 0, vI p0]) [(.iload_n 1, 1), (.iconst 0, 1), (.iconst 1, 1)] ⟨dX1_anew_0, dX1_anew_1, dX1_anew_2, rfl⟩ rfl ?_
  refine t_callSI C 6 [vI p0, vI 0, vI 1] [] dX1_anew_3 rfl (ok_X1_isFrom hG hw) q2431 q2432 q159 q2433 hd_X1_isFrom ⟨rfl, rfl, rfl⟩ (fun r2 T1 hw => ?_)
  refine t_if_ne C 15 9 dX1_anew_6 rfl rfl (fun hc3 => ?_) (fun hc3 => ?_)
  · replace hw := hw.2 hc3
    refine t_b C (pc' := 16) (L' := [(0, vA (some o)), (1, vI p0)]) (st' := [vA (some o)]) [(.aload_n 0, 1)] ⟨dX1_anew_15, rfl⟩ rfl ?_
    refine t_callVI C 19 [] [] dX1_anew_16 rfl (ok_X1_hasTree hG hw) q2849 q2851 qs148 q159 q2852 hd_X1_hasTree ⟨rfl, rfl, rfl⟩ (fun r5 T4 hw => ?_)
    refine t_if_ne C 28 22 dX1_anew_19 rfl rfl (fun hc6 => ?_) (fun hc6 => ?_)
    · replace hw := hw.2 hc6
      refine t_b C (pc' := 29) (L' := [(0, vA (some o)), (1, vI p0)]) (st' := [vA (some o)]) [(.aload_n 0, 1)] ⟨dX1_anew_28, rfl⟩ rfl ?_
      refine t_gI C 253 32 dX1_anew_29 rfl rfl rfl q2241 (fun _ _ _ => rfl) ?_
      refine t_if_ne C 42 35 dX1_anew_32 rfl rfl (fun hc7 => ?_) (fun hc7 => ?_)
      · replace hw := hw.2 hc7
        refine t_b C (pc' := 44) (L' := [(0, vA (some o)), (1, vI p0)]) (st' := [vI p0, vA (some o)]) [(.aload_n 0, 1), (.iload_n 1, 1)] ⟨dX1_anew_42, dX1_anew_43, rfl⟩ rfl ?_
        have kj9 : ∀ (m8 : Int32), m8 = (if p0 = 0 then (T4.s 254) else (T4.s 255)) → K 58 [] [vI m8, vA (some o)] T4 := by
          intro m8 em8
          replace hw := hw m8 em8
          refine t_callVI C 61 [vI m8] [] dX1_anew_58 rfl (ok_X1_gives hG hw) q2589 q2591 qs100 q159 q2592 hd_X1_gives ⟨rfl, rfl, rfl⟩ (fun r11 T10 hw => ?_)
          exact t_iret C dX1_anew_61 ⟨_, rfl, hw⟩
        refine t_if_ne C 54 47 dX1_anew_44 rfl rfl (fun hc12 => ?_) (fun hc12 => ?_)
        · refine t_b C (pc' := 55) (L' := [(0, vA (some o)), (1, vI p0)]) (st' := [vA (some o), vA (some o)]) [(.aload_n 0, 1)] ⟨dX1_anew_54, rfl⟩ rfl ?_
          refine t_gI C 255 58 dX1_anew_55 rfl rfl rfl q2243 (fun _ _ _ => rfl) ?_
          refine t_sub C (L' := []) [] rfl ?_
          exact kj9 _ ((if_neg hc12).symm)
        · refine t_b C (pc' := 48) (L' := [(0, vA (some o)), (1, vI p0)]) (st' := [vA (some o), vA (some o)]) [(.aload_n 0, 1)] ⟨dX1_anew_47, rfl⟩ rfl ?_
          refine t_gI C 254 51 dX1_anew_48 rfl rfl rfl q2242 (fun _ _ _ => rfl) ?_
          refine t_goto C 58 dX1_anew_51 rfl ?_
          refine t_sub C (L' := []) [] rfl ?_
          exact kj9 _ ((if_pos hc12).symm)
      · replace hw := hw.1 hc7
        refine t_b C (pc' := 38) (L' := [(0, vA (some o)), (1, vI p0)]) (st' := [vI 7, vA (some o)]) [(.aload_n 0, 1), (.bipush 7, 2)] ⟨dX1_anew_35, dX1_anew_36, rfl⟩ rfl ?_
        refine t_callVI C 41 [vI 7] [] dX1_anew_38 rfl (ok_X1_refuse hG hw) q2434 q2436 qs70 q159 q2437 hd_X1_refuse ⟨rfl, rfl, rfl⟩ (fun r14 T13 hw => ?_)
        exact t_iret C dX1_anew_41 ⟨_, rfl, hw⟩
    · replace hw := hw.1 hc6
      refine t_b C (pc' := 24) (L' := [(0, vA (some o)), (1, vI p0)]) (st' := [vI 3, vA (some o)]) [(.aload_n 0, 1), (.iconst 3, 1)] ⟨dX1_anew_22, dX1_anew_23, rfl⟩ rfl ?_
      refine t_callVI C 27 [vI 3] [] dX1_anew_24 rfl (ok_X1_refuse hG hw) q2434 q2436 qs70 q159 q2437 hd_X1_refuse ⟨rfl, rfl, rfl⟩ (fun r16 T15 hw => ?_)
      exact t_iret C dX1_anew_27 ⟨_, rfl, hw⟩
  · replace hw := hw.1 hc3
    refine t_b C (pc' := 11) (L' := [(0, vA (some o)), (1, vI p0)]) (st' := [vI 1, vA (some o)]) [(.aload_n 0, 1), (.iconst 1, 1)] ⟨dX1_anew_9, dX1_anew_10, rfl⟩ rfl ?_
    refine t_callVI C 14 [vI 1] [] dX1_anew_11 rfl (ok_X1_refuse hG hw) q2434 q2436 qs70 q159 q2437 hd_X1_refuse ⟨rfl, rfl, rfl⟩ (fun r18 T17 hw => ?_)
    exact t_iret C dX1_anew_14 ⟨_, rfl, hw⟩
def wp_X1_asks (p0 : Int32) (p1 : Int32) (T : TS) (Q : Int32 → TS → Prop) : Prop :=
  tix 1 40 ((848 + (32 * p0)) + p1) ∧
  Q (T.a 1 (ni ((848 + (32 * p0)) + p1))) T
theorem hd_X1_asks : yX1_asks.cls = RX1 ∧ yX1_asks.cls ≠ "java/lang/invoke/MethodHandle" ∧ yX1_asks.cls ≠ "java/lang/invoke/VarHandle" ∧ (parseMethodDescriptor yX1_asks.desc).map (fun d => d.parameters.length) = some 2 := by decide +kernel
theorem ok_X1_asks {l : Launch} {D : va_G} {s0 : S0} (hG : G0 D s0) {o : Nat} {p0 : Int32} {p1 : Int32} {T : TS} {Q : Int32 → TS → Prop} (hw : wp_X1_asks p0 p1 T Q) : OKt l D s0 o yX1_asks cX1_asks 3 (some .int) 0 0 [vA (some o), vI p0, vI p1] T (TI Q) := by
  refine t_met hG rfl rfl (L0 := [(0, vA (some o)), (1, vI p0), (2, vI p1)]) rfl rfl ?_
  intro h K C
  unfold wp_X1_asks at hw
  refine t_b C (pc' := 1) (L' := [(0, vA (some o)), (1, vI p0), (2, vI p1)]) (st' := [vA (some o)]) [(.aload_n 0, 1)] ⟨dX1_asks_0, rfl⟩ rfl ?_
  refine t_gA C 201 1 4 dX1_asks_1 rfl rfl rfl rfl rfl q2189 (fun _ _ _ => rfl) ?_
  refine t_b C (pc' := 14) (L' := [(0, vA (some o)), (1, vI p0), (2, vI p1)]) (st' := [vI ((848 + (32 * p0)) + p1), vA (some (o + 1 + 1))]) [(.sipush 848, 3), (.bipush 32, 2), (.iload_n 1, 1), (.imul, 1), (.iadd, 1), (.iload_n 2, 1), (.iadd, 1)] ⟨dX1_asks_4, dX1_asks_7, dX1_asks_9, dX1_asks_10, dX1_asks_11, dX1_asks_12, dX1_asks_13, rfl⟩ rfl ?_
  refine t_iald C 15 dX1_asks_14 rfl hw.1 ?_
  replace hw := hw.2
  exact t_iret C dX1_asks_15 ⟨_, rfl, hw⟩
def wp_X1_asksOf (p0 : Int32) (T : TS) (Q : Int32 → TS → Prop) : Prop :=
  tix 26 40 p0 ∧
  (((T.a 26 (ni p0)) = (-1) →
  Q 0 T) ∧ (¬ (T.a 26 (ni p0)) = (-1) →
  tix 26 40 p0 ∧
  tix 19 40 (T.a 26 (ni p0)) ∧
  tix 27 40 p0 ∧
  wp_X1_asks (T.a 19 (ni (T.a 26 (ni p0)))) (T.a 27 (ni p0)) T fun r3 T2 =>
  Q r3 T2))
theorem hd_X1_asksOf : yX1_asksOf.cls = RX1 ∧ yX1_asksOf.cls ≠ "java/lang/invoke/MethodHandle" ∧ yX1_asksOf.cls ≠ "java/lang/invoke/VarHandle" ∧ (parseMethodDescriptor yX1_asksOf.desc).map (fun d => d.parameters.length) = some 1 := by decide +kernel
theorem ok_X1_asksOf {l : Launch} {D : va_G} {s0 : S0} (hG : G0 D s0) {o : Nat} {p0 : Int32} {T : TS} {Q : Int32 → TS → Prop} (hw : wp_X1_asksOf p0 T Q) : OKt l D s0 o yX1_asksOf cX1_asksOf 2 (some .int) 1 22 [vA (some o), vI p0] T (TI Q) := by
  refine t_met hG rfl rfl (L0 := [(0, vA (some o)), (1, vI p0)]) rfl rfl ?_
  intro h K C
  unfold wp_X1_asksOf at hw
  refine t_b C (pc' := 1) (L' := [(0, vA (some o)), (1, vI p0)]) (st' := [vA (some o)]) [(.aload_n 0, 1)] ⟨dX1_asksOf_0, rfl⟩ rfl ?_
  refine t_gA C 256 26 4 dX1_asksOf_1 rfl rfl rfl rfl rfl q2244 (fun _ _ _ => rfl) ?_
  refine t_b C (pc' := 5) (L' := [(0, vA (some o)), (1, vI p0)]) (st' := [vI p0, vA (some (o + 1 + 26))]) [(.iload_n 1, 1)] ⟨dX1_asksOf_4, rfl⟩ rfl ?_
  refine t_iald C 6 dX1_asksOf_5 rfl hw.1 ?_
  replace hw := hw.2
  refine t_b C (pc' := 7) (L' := [(0, vA (some o)), (1, vI p0)]) (st' := [vI (-1), vI (T.a 26 (ni p0))]) [(.iconst (-1), 1)] ⟨dX1_asksOf_6, rfl⟩ rfl ?_
  refine t_icmp_ne C 14 10 dX1_asksOf_7 rfl rfl (fun hc1 => ?_) (fun hc1 => ?_)
  · replace hw := hw.2 hc1
    refine t_b C (pc' := 16) (L' := [(0, vA (some o)), (1, vI p0)]) (st' := [vA (some o), vA (some o)]) [(.aload_n 0, 1), (.aload_n 0, 1)] ⟨dX1_asksOf_14, dX1_asksOf_15, rfl⟩ rfl ?_
    refine t_gA C 243 19 19 dX1_asksOf_16 rfl rfl rfl rfl rfl q2231 (fun _ _ _ => rfl) ?_
    refine t_b C (pc' := 20) (L' := [(0, vA (some o)), (1, vI p0)]) (st' := [vA (some o), vA (some (o + 1 + 19)), vA (some o)]) [(.aload_n 0, 1)] ⟨dX1_asksOf_19, rfl⟩ rfl ?_
    refine t_gA C 256 26 23 dX1_asksOf_20 rfl rfl rfl rfl rfl q2244 (fun _ _ _ => rfl) ?_
    refine t_b C (pc' := 24) (L' := [(0, vA (some o)), (1, vI p0)]) (st' := [vI p0, vA (some (o + 1 + 26)), vA (some (o + 1 + 19)), vA (some o)]) [(.iload_n 1, 1)] ⟨dX1_asksOf_23, rfl⟩ rfl ?_
    refine t_iald C 25 dX1_asksOf_24 rfl hw.1 ?_
    replace hw := hw.2
    refine t_iald C 26 dX1_asksOf_25 rfl hw.1 ?_
    replace hw := hw.2
    refine t_b C (pc' := 27) (L' := [(0, vA (some o)), (1, vI p0)]) (st' := [vA (some o), vI (T.a 19 (ni (T.a 26 (ni p0)))), vA (some o)]) [(.aload_n 0, 1)] ⟨dX1_asksOf_26, rfl⟩ rfl ?_
    refine t_gA C 257 27 30 dX1_asksOf_27 rfl rfl rfl rfl rfl q2245 (fun _ _ _ => rfl) ?_
    refine t_b C (pc' := 31) (L' := [(0, vA (some o)), (1, vI p0)]) (st' := [vI p0, vA (some (o + 1 + 27)), vI (T.a 19 (ni (T.a 26 (ni p0)))), vA (some o)]) [(.iload_n 1, 1)] ⟨dX1_asksOf_30, rfl⟩ rfl ?_
    refine t_iald C 32 dX1_asksOf_31 rfl hw.1 ?_
    replace hw := hw.2
    refine t_callVI C 35 [vI (T.a 19 (ni (T.a 26 (ni p0)))), vI (T.a 27 (ni p0))] [] dX1_asksOf_32 rfl (ok_X1_asks hG hw) q2570 q2572 qs96 q159 q2573 hd_X1_asks ⟨rfl, rfl, rfl⟩ (fun r3 T2 hw => ?_)
    exact t_iret C dX1_asksOf_35 ⟨_, rfl, hw⟩
  · replace hw := hw.1 hc1
    refine t_b C (pc' := 11) (L' := [(0, vA (some o)), (1, vI p0)]) (st' := [vI 0]) [(.iconst 0, 1)] ⟨dX1_asksOf_10, rfl⟩ rfl ?_
    refine t_goto C 35 dX1_asksOf_11 rfl ?_
    exact t_iret C dX1_asksOf_35 ⟨_, rfl, hw⟩
def wp_X1_asksOwn (p0 : Int32) (T : TS) (Q : Int32 → TS → Prop) : Prop :=
  tix 26 40 p0 ∧
  tix 19 40 (T.a 26 (ni p0)) ∧
  tix 27 40 p0 ∧
  tix 1 40 (80 + ((32 * (T.a 19 (ni (T.a 26 (ni p0))))) + (T.a 27 (ni p0)))) ∧
  tlp (σ := Int32) (fun s1 T2 k1 =>
  tix 1 40 (464 + ((32 * (T.a 19 (ni (T.a 26 (ni p0))))) + (T.a 27 (ni p0)))) ∧
  (((T2.a 1 (ni (464 + ((32 * (T.a 19 (ni (T.a 26 (ni p0))))) + (T.a 27 (ni p0)))))) ≤ s1 →
  Q 0 T2) ∧ (¬ (T2.a 1 (ni (464 + ((32 * (T.a 19 (ni (T.a 26 (ni p0))))) + (T.a 27 (ni p0)))))) ≤ s1 →
  tix 1 40 (1616 + s1) ∧
  (((T2.a 1 (ni (1616 + s1))) = 1 →
  Q 1 T2) ∧ (¬ (T2.a 1 (ni (1616 + s1))) = 1 →
  k1 (s1 + 1) T2))))) (T.a 1 (ni (80 + ((32 * (T.a 19 (ni (T.a 26 (ni p0))))) + (T.a 27 (ni p0)))))) T
theorem hd_X1_asksOwn : yX1_asksOwn.cls = RX1 ∧ yX1_asksOwn.cls ≠ "java/lang/invoke/MethodHandle" ∧ yX1_asksOwn.cls ≠ "java/lang/invoke/VarHandle" ∧ (parseMethodDescriptor yX1_asksOwn.desc).map (fun d => d.parameters.length) = some 1 := by decide +kernel
theorem ok_X1_asksOwn {l : Launch} {D : va_G} {s0 : S0} (hG : G0 D s0) {o : Nat} {p0 : Int32} {T : TS} {Q : Int32 → TS → Prop} (hw : wp_X1_asksOwn p0 T Q) : OKt l D s0 o yX1_asksOwn cX1_asksOwn 4 (some .boolean) 0 0 [vA (some o), vI p0] T (TI Q) := by
  refine t_met hG rfl rfl (L0 := [(0, vA (some o)), (1, vI p0)]) rfl rfl ?_
  intro h K C
  unfold wp_X1_asksOwn at hw
  refine t_b C (pc' := 3) (L' := [(0, vA (some o)), (1, vI p0)]) (st' := [vA (some o), vI 32]) [(.bipush 32, 2), (.aload_n 0, 1)] ⟨dX1_asksOwn_0, dX1_asksOwn_2, rfl⟩ rfl ?_
  refine t_gA C 243 19 6 dX1_asksOwn_3 rfl rfl rfl rfl rfl q2231 (fun _ _ _ => rfl) ?_
  refine t_b C (pc' := 7) (L' := [(0, vA (some o)), (1, vI p0)]) (st' := [vA (some o), vA (some (o + 1 + 19)), vI 32]) [(.aload_n 0, 1)] ⟨dX1_asksOwn_6, rfl⟩ rfl ?_
  refine t_gA C 256 26 10 dX1_asksOwn_7 rfl rfl rfl rfl rfl q2244 (fun _ _ _ => rfl) ?_
  refine t_b C (pc' := 11) (L' := [(0, vA (some o)), (1, vI p0)]) (st' := [vI p0, vA (some (o + 1 + 26)), vA (some (o + 1 + 19)), vI 32]) [(.iload_n 1, 1)] ⟨dX1_asksOwn_10, rfl⟩ rfl ?_
  refine t_iald C 12 dX1_asksOwn_11 rfl hw.1 ?_
  replace hw := hw.2
  refine t_iald C 13 dX1_asksOwn_12 rfl hw.1 ?_
  replace hw := hw.2
  refine t_b C (pc' := 15) (L' := [(0, vA (some o)), (1, vI p0)]) (st' := [vA (some o), vI (32 * (T.a 19 (ni (T.a 26 (ni p0)))))]) [(.imul, 1), (.aload_n 0, 1)] ⟨dX1_asksOwn_13, dX1_asksOwn_14, rfl⟩ rfl ?_
  refine t_gA C 257 27 18 dX1_asksOwn_15 rfl rfl rfl rfl rfl q2245 (fun _ _ _ => rfl) ?_
  refine t_b C (pc' := 19) (L' := [(0, vA (some o)), (1, vI p0)]) (st' := [vI p0, vA (some (o + 1 + 27)), vI (32 * (T.a 19 (ni (T.a 26 (ni p0)))))]) [(.iload_n 1, 1)] ⟨dX1_asksOwn_18, rfl⟩ rfl ?_
  refine t_iald C 20 dX1_asksOwn_19 rfl hw.1 ?_
  replace hw := hw.2
  refine t_b C (pc' := 23) (L' := [(2, vI ((32 * (T.a 19 (ni (T.a 26 (ni p0))))) + (T.a 27 (ni p0)))), (0, vA (some o)), (1, vI p0)]) (st' := [vA (some o)]) [(.iadd, 1), (.istore_n 2, 1), (.aload_n 0, 1)] ⟨dX1_asksOwn_20, dX1_asksOwn_21, dX1_asksOwn_22, rfl⟩ rfl ?_
  refine t_gA C 201 1 26 dX1_asksOwn_23 rfl rfl rfl rfl rfl q2189 (fun _ _ _ => rfl) ?_
  refine t_b C (pc' := 30) (L' := [(2, vI ((32 * (T.a 19 (ni (T.a 26 (ni p0))))) + (T.a 27 (ni p0)))), (0, vA (some o)), (1, vI p0)]) (st' := [vI (80 + ((32 * (T.a 19 (ni (T.a 26 (ni p0))))) + (T.a 27 (ni p0)))), vA (some (o + 1 + 1))]) [(.bipush 80, 2), (.iload_n 2, 1), (.iadd, 1)] ⟨dX1_asksOwn_26, dX1_asksOwn_28, dX1_asksOwn_29, rfl⟩ rfl ?_
  refine t_iald C 31 dX1_asksOwn_30 rfl hw.1 ?_
  replace hw := hw.2
  refine t_b C (pc' := 32) (L' := [(3, vI (T.a 1 (ni (80 + ((32 * (T.a 19 (ni (T.a 26 (ni p0))))) + (T.a 27 (ni p0))))))), (2, vI ((32 * (T.a 19 (ni (T.a 26 (ni p0))))) + (T.a 27 (ni p0)))), (0, vA (some o)), (1, vI p0)]) (st' := []) [(.istore_n 3, 1)] ⟨dX1_asksOwn_31, rfl⟩ rfl ?_
  obtain ⟨I1, ⟨n1, hI1⟩, hB1⟩ := tlp.out hw
  refine t_sub C (L' := [(0, vA (some o)), (2, vI ((32 * (T.a 19 (ni (T.a 26 (ni p0))))) + (T.a 27 (ni p0)))), (3, vI (T.a 1 (ni (80 + ((32 * (T.a 19 (ni (T.a 26 (ni p0))))) + (T.a 27 (ni p0)))))))]) [2, 1, 0] rfl ?_
  have key1 : ∀ (n : Nat) (s1 : Int32) (T2 : TS), I1 n s1 T2 → K 32 [(0, vA (some o)), (2, vI ((32 * (T.a 19 (ni (T.a 26 (ni p0))))) + (T.a 27 (ni p0)))), (3, vI s1)] [] T2 := by
    intro n
    induction n using Nat.strongRecOn with
    | ind n ih1 =>
      intro s1 T2 hI
      replace hw := hB1 n s1 T2 hI
      refine t_b C (pc' := 34) (L' := [(0, vA (some o)), (2, vI ((32 * (T.a 19 (ni (T.a 26 (ni p0))))) + (T.a 27 (ni p0)))), (3, vI s1)]) (st' := [vA (some o), vI s1]) [(.iload_n 3, 1), (.aload_n 0, 1)] ⟨dX1_asksOwn_32, dX1_asksOwn_33, rfl⟩ rfl ?_
      refine t_gA C 201 1 37 dX1_asksOwn_34 rfl rfl rfl rfl rfl q2189 (fun _ _ _ => rfl) ?_
      refine t_b C (pc' := 42) (L' := [(0, vA (some o)), (2, vI ((32 * (T.a 19 (ni (T.a 26 (ni p0))))) + (T.a 27 (ni p0)))), (3, vI s1)]) (st' := [vI (464 + ((32 * (T.a 19 (ni (T.a 26 (ni p0))))) + (T.a 27 (ni p0)))), vA (some (o + 1 + 1)), vI s1]) [(.sipush 464, 3), (.iload_n 2, 1), (.iadd, 1)] ⟨dX1_asksOwn_37, dX1_asksOwn_40, dX1_asksOwn_41, rfl⟩ rfl ?_
      refine t_iald C 43 dX1_asksOwn_42 rfl hw.1 ?_
      replace hw := hw.2
      refine t_icmp_ge C 68 46 dX1_asksOwn_43 rfl rfl (fun hc3 => ?_) (fun hc3 => ?_)
      · replace hw := hw.1 hc3
        refine t_b C (pc' := 69) (L' := [(0, vA (some o)), (2, vI ((32 * (T.a 19 (ni (T.a 26 (ni p0))))) + (T.a 27 (ni p0)))), (3, vI s1)]) (st' := [vI 0]) [(.iconst 0, 1)] ⟨dX1_asksOwn_68, rfl⟩ rfl ?_
        exact t_zret C dX1_asksOwn_69 rfl ⟨_, rfl, hw⟩
      · replace hw := hw.2 hc3
        refine t_b C (pc' := 47) (L' := [(0, vA (some o)), (2, vI ((32 * (T.a 19 (ni (T.a 26 (ni p0))))) + (T.a 27 (ni p0)))), (3, vI s1)]) (st' := [vA (some o)]) [(.aload_n 0, 1)] ⟨dX1_asksOwn_46, rfl⟩ rfl ?_
        refine t_gA C 201 1 50 dX1_asksOwn_47 rfl rfl rfl rfl rfl q2189 (fun _ _ _ => rfl) ?_
        refine t_b C (pc' := 55) (L' := [(0, vA (some o)), (2, vI ((32 * (T.a 19 (ni (T.a 26 (ni p0))))) + (T.a 27 (ni p0)))), (3, vI s1)]) (st' := [vI (1616 + s1), vA (some (o + 1 + 1))]) [(.sipush 1616, 3), (.iload_n 3, 1), (.iadd, 1)] ⟨dX1_asksOwn_50, dX1_asksOwn_53, dX1_asksOwn_54, rfl⟩ rfl ?_
        refine t_iald C 56 dX1_asksOwn_55 rfl hw.1 ?_
        replace hw := hw.2
        refine t_b C (pc' := 57) (L' := [(0, vA (some o)), (2, vI ((32 * (T.a 19 (ni (T.a 26 (ni p0))))) + (T.a 27 (ni p0)))), (3, vI s1)]) (st' := [vI 1, vI (T2.a 1 (ni (1616 + s1)))]) [(.iconst 1, 1)] ⟨dX1_asksOwn_56, rfl⟩ rfl ?_
        refine t_icmp_ne C 62 60 dX1_asksOwn_57 rfl rfl (fun hc4 => ?_) (fun hc4 => ?_)
        · replace hw := hw.2 hc4
          refine t_b C (pc' := 65) (L' := [(3, vI (s1 + 1)), (0, vA (some o)), (2, vI ((32 * (T.a 19 (ni (T.a 26 (ni p0))))) + (T.a 27 (ni p0))))]) (st' := []) [(.iinc 3 1, 3)] ⟨dX1_asksOwn_62, rfl⟩ rfl ?_
          refine t_goto C 32 dX1_asksOwn_65 rfl ?_
          refine t_sub C (L' := [(0, vA (some o)), (2, vI ((32 * (T.a 19 (ni (T.a 26 (ni p0))))) + (T.a 27 (ni p0)))), (3, vI (s1 + 1))]) [1, 2, 0] rfl ?_
          obtain ⟨m9, hm9, hw⟩ := hw
          exact ih1 m9 hm9 (s1 + 1) T2 hw
        · replace hw := hw.1 hc4
          refine t_b C (pc' := 61) (L' := [(0, vA (some o)), (2, vI ((32 * (T.a 19 (ni (T.a 26 (ni p0))))) + (T.a 27 (ni p0)))), (3, vI s1)]) (st' := [vI 1]) [(.iconst 1, 1)] ⟨dX1_asksOwn_60, rfl⟩ rfl ?_
          exact t_zret C dX1_asksOwn_61 rfl ⟨_, rfl, hw⟩
  exact key1 n1 (T.a 1 (ni (80 + ((32 * (T.a 19 (ni (T.a 26 (ni p0))))) + (T.a 27 (ni p0)))))) T hI1
def wp_X1_bad (p0 : Int32) (T : TS) (Q : Int32 → TS → Prop) : Prop :=
  ∀ m1 : Int32, m1 = (if (T.s 213) = 1 then 1 else p0) →
  ∀ T3, T3 = T.ss 216 m1 →
  ∀ T4, T4 = T3.ss 217 (T3.s 211) →
  Q 0 T4
theorem hd_X1_bad : yX1_bad.cls = RX1 ∧ yX1_bad.cls ≠ "java/lang/invoke/MethodHandle" ∧ yX1_bad.cls ≠ "java/lang/invoke/VarHandle" ∧ (parseMethodDescriptor yX1_bad.desc).map (fun d => d.parameters.length) = some 1 := by decide +kernel
theorem ok_X1_bad {l : Launch} {D : va_G} {s0 : S0} (hG : G0 D s0) {o : Nat} {p0 : Int32} {T : TS} {Q : Int32 → TS → Prop} (hw : wp_X1_bad p0 T Q) : OKt l D s0 o yX1_bad cX1_bad 2 (some .boolean) 0 0 [vA (some o), vI p0] T (TI Q) := by
  refine t_met hG rfl rfl (L0 := [(0, vA (some o)), (1, vI p0)]) rfl rfl ?_
  intro h K C
  unfold wp_X1_bad at hw
  refine t_b C (pc' := 2) (L' := [(0, vA (some o)), (1, vI p0)]) (st' := [vA (some o), vA (some o)]) [(.aload_n 0, 1), (.aload_n 0, 1)] ⟨dX1_bad_0, dX1_bad_1, rfl⟩ rfl ?_
  refine t_gI C 213 5 dX1_bad_2 rfl rfl rfl q2201 (fun _ _ _ => rfl) ?_
  refine t_b C (pc' := 6) (L' := [(0, vA (some o)), (1, vI p0)]) (st' := [vI 1, vI (T.s 213), vA (some o)]) [(.iconst 1, 1)] ⟨dX1_bad_5, rfl⟩ rfl ?_
  have kj2 : ∀ (m1 : Int32), m1 = (if (T.s 213) = 1 then 1 else p0) → K 14 [(0, vA (some o))] [vI m1, vA (some o)] T := by
    intro m1 em1
    replace hw := hw m1 em1
    refine t_pI C 216 17 dX1_bad_14 rfl rfl rfl rfl q2204 (fun _ _ _ => rfl) rfl rfl (fun T3 eT3 => ?_)
    replace hw := hw T3 eT3
    refine t_b C (pc' := 19) (L' := [(0, vA (some o))]) (st' := [vA (some o), vA (some o)]) [(.aload_n 0, 1), (.aload_n 0, 1)] ⟨dX1_bad_17, dX1_bad_18, rfl⟩ rfl ?_
    refine t_gI C 211 22 dX1_bad_19 rfl rfl rfl q2199 (fun _ _ _ => rfl) ?_
    refine t_pI C 217 25 dX1_bad_22 rfl rfl rfl rfl q2205 (fun _ _ _ => rfl) rfl rfl (fun T4 eT4 => ?_)
    replace hw := hw T4 eT4
    refine t_b C (pc' := 26) (L' := [(0, vA (some o))]) (st' := [vI 0]) [(.iconst 0, 1)] ⟨dX1_bad_25, rfl⟩ rfl ?_
    exact t_zret C dX1_bad_26 rfl ⟨_, rfl, hw⟩
  refine t_icmp_ne C 13 9 dX1_bad_6 rfl rfl (fun hc5 => ?_) (fun hc5 => ?_)
  · refine t_b C (pc' := 14) (L' := [(0, vA (some o)), (1, vI p0)]) (st' := [vI p0, vA (some o)]) [(.iload_n 1, 1)] ⟨dX1_bad_13, rfl⟩ rfl ?_
    refine t_sub C (L' := [(0, vA (some o))]) [0] rfl ?_
    exact kj2 _ ((if_neg hc5).symm)
  · refine t_b C (pc' := 10) (L' := [(0, vA (some o)), (1, vI p0)]) (st' := [vI 1, vA (some o)]) [(.iconst 1, 1)] ⟨dX1_bad_9, rfl⟩ rfl ?_
    refine t_goto C 14 dX1_bad_10 rfl ?_
    refine t_sub C (L' := [(0, vA (some o))]) [0] rfl ?_
    exact kj2 _ ((if_pos hc5).symm)
def wp_X1_badAt (p0 : Int32) (p1 : Int32) (T : TS) (Q : Int32 → TS → Prop) : Prop :=
  ∀ T1, T1 = T.ss 216 p0 →
  ∀ T2, T2 = T1.ss 217 p1 →
  Q 0 T2
theorem hd_X1_badAt : yX1_badAt.cls = RX1 ∧ yX1_badAt.cls ≠ "java/lang/invoke/MethodHandle" ∧ yX1_badAt.cls ≠ "java/lang/invoke/VarHandle" ∧ (parseMethodDescriptor yX1_badAt.desc).map (fun d => d.parameters.length) = some 2 := by decide +kernel
theorem ok_X1_badAt {l : Launch} {D : va_G} {s0 : S0} (hG : G0 D s0) {o : Nat} {p0 : Int32} {p1 : Int32} {T : TS} {Q : Int32 → TS → Prop} (hw : wp_X1_badAt p0 p1 T Q) : OKt l D s0 o yX1_badAt cX1_badAt 3 (some .boolean) 0 0 [vA (some o), vI p0, vI p1] T (TI Q) := by
  refine t_met hG rfl rfl (L0 := [(0, vA (some o)), (1, vI p0), (2, vI p1)]) rfl rfl ?_
  intro h K C
  unfold wp_X1_badAt at hw
  refine t_b C (pc' := 2) (L' := [(0, vA (some o)), (1, vI p0), (2, vI p1)]) (st' := [vI p0, vA (some o)]) [(.aload_n 0, 1), (.iload_n 1, 1)] ⟨dX1_badAt_0, dX1_badAt_1, rfl⟩ rfl ?_
  refine t_pI C 216 5 dX1_badAt_2 rfl rfl rfl rfl q2204 (fun _ _ _ => rfl) rfl rfl (fun T1 eT1 => ?_)
  replace hw := hw T1 eT1
  refine t_b C (pc' := 7) (L' := [(0, vA (some o)), (1, vI p0), (2, vI p1)]) (st' := [vI p1, vA (some o)]) [(.aload_n 0, 1), (.iload_n 2, 1)] ⟨dX1_badAt_5, dX1_badAt_6, rfl⟩ rfl ?_
  refine t_pI C 217 10 dX1_badAt_7 rfl rfl rfl rfl q2205 (fun _ _ _ => rfl) rfl rfl (fun T2 eT2 => ?_)
  replace hw := hw T2 eT2
  refine t_b C (pc' := 11) (L' := [(0, vA (some o)), (1, vI p0), (2, vI p1)]) (st' := [vI 0]) [(.iconst 0, 1)] ⟨dX1_badAt_10, rfl⟩ rfl ?_
  exact t_zret C dX1_badAt_11 rfl ⟨_, rfl, hw⟩
def wp_X1_byteAt (p0 : Int32) (T : TS) (Q : Int32 → TS → Prop) : Prop :=
  (((T.s 210) ≤ p0 →
  Q (-1) T) ∧ (¬ (T.s 210) ≤ p0 →
  tix 0 40 p0 ∧
  Q (T.a 0 (ni p0)) T))
theorem hd_X1_byteAt : yX1_byteAt.cls = RX1 ∧ yX1_byteAt.cls ≠ "java/lang/invoke/MethodHandle" ∧ yX1_byteAt.cls ≠ "java/lang/invoke/VarHandle" ∧ (parseMethodDescriptor yX1_byteAt.desc).map (fun d => d.parameters.length) = some 1 := by decide +kernel
theorem ok_X1_byteAt {l : Launch} {D : va_G} {s0 : S0} (hG : G0 D s0) {o : Nat} {p0 : Int32} {T : TS} {Q : Int32 → TS → Prop} (hw : wp_X1_byteAt p0 T Q) : OKt l D s0 o yX1_byteAt cX1_byteAt 2 (some .int) 0 0 [vA (some o), vI p0] T (TI Q) := by
  refine t_met hG rfl rfl (L0 := [(0, vA (some o)), (1, vI p0)]) rfl rfl ?_
  intro h K C
  unfold wp_X1_byteAt at hw
  refine t_b C (pc' := 2) (L' := [(0, vA (some o)), (1, vI p0)]) (st' := [vA (some o), vI p0]) [(.iload_n 1, 1), (.aload_n 0, 1)] ⟨dX1_byteAt_0, dX1_byteAt_1, rfl⟩ rfl ?_
  refine t_gI C 210 5 dX1_byteAt_2 rfl rfl rfl q2198 (fun _ _ _ => rfl) ?_
  refine t_icmp_ge C 17 8 dX1_byteAt_5 rfl rfl (fun hc1 => ?_) (fun hc1 => ?_)
  · replace hw := hw.1 hc1
    refine t_b C (pc' := 18) (L' := [(0, vA (some o)), (1, vI p0)]) (st' := [vI (-1)]) [(.iconst (-1), 1)] ⟨dX1_byteAt_17, rfl⟩ rfl ?_
    exact t_iret C dX1_byteAt_18 ⟨_, rfl, hw⟩
  · replace hw := hw.2 hc1
    refine t_b C (pc' := 9) (L' := [(0, vA (some o)), (1, vI p0)]) (st' := [vA (some o)]) [(.aload_n 0, 1)] ⟨dX1_byteAt_8, rfl⟩ rfl ?_
    refine t_gA C 200 0 12 dX1_byteAt_9 rfl rfl rfl rfl rfl q2188 (fun _ _ _ => rfl) ?_
    refine t_b C (pc' := 13) (L' := [(0, vA (some o)), (1, vI p0)]) (st' := [vI p0, vA (some (o + 1 + 0))]) [(.iload_n 1, 1)] ⟨dX1_byteAt_12, rfl⟩ rfl ?_
    refine t_iald C 14 dX1_byteAt_13 rfl hw.1 ?_
    replace hw := hw.2
    refine t_goto C 18 dX1_byteAt_14 rfl ?_
    exact t_iret C dX1_byteAt_18 ⟨_, rfl, hw⟩
def wp_X1_isDigit (p0 : Int32) (T : TS) (Q : Int32 → TS → Prop) : Prop :=
  ∀ m1 : Int32, m1 = (if p0 < 48 then 0 else (if 57 < p0 then 0 else 1)) →
  bz m1 ∧ Q m1 T
theorem hd_X1_isDigit : yX1_isDigit.cls ≠ "java/lang/invoke/MethodHandle" ∧ yX1_isDigit.cls ≠ "java/lang/invoke/VarHandle" ∧ (parseMethodDescriptor yX1_isDigit.desc).map (fun d => d.parameters.length) = some 1 := by decide +kernel
theorem ok_X1_isDigit {l : Launch} {D : va_G} {s0 : S0} (hG : G0 D s0) {o : Nat} {p0 : Int32} {T : TS} {Q : Int32 → TS → Prop} (hw : wp_X1_isDigit p0 T Q) : OKt l D s0 o yX1_isDigit cX1_isDigit 1 (some .boolean) 0 0 [vI p0] T (TI Q) := by
  refine t_met hG rfl rfl (L0 := [(0, vI p0)]) rfl rfl ?_
  intro h K C
  unfold wp_X1_isDigit at hw
  refine t_b C (pc' := 3) (L' := [(0, vI p0)]) (st' := [vI 48, vI p0]) [(.iload_n 0, 1), (.bipush 48, 2)] ⟨dX1_isDigit_0, dX1_isDigit_1, rfl⟩ rfl ?_
  have kj2 : ∀ (m1 : Int32), m1 = (if p0 < 48 then 0 else (if 57 < p0 then 0 else 1)) → K 17 [] [vI m1] T := by
    intro m1 em1
    replace hw := hw m1 em1
    exact t_zret C dX1_isDigit_17 (bz_n hw.1) ⟨_, rfl, hw.2⟩
  refine t_icmp_lt C 16 6 dX1_isDigit_3 rfl rfl (fun hc3 => ?_) (fun hc3 => ?_)
  · refine t_b C (pc' := 17) (L' := [(0, vI p0)]) (st' := [vI 0]) [(.iconst 0, 1)] ⟨dX1_isDigit_16, rfl⟩ rfl ?_
    refine t_sub C (L' := []) [] rfl ?_
    exact kj2 _ ((if_pos hc3).symm)
  · refine t_b C (pc' := 9) (L' := [(0, vI p0)]) (st' := [vI 57, vI p0]) [(.iload_n 0, 1), (.bipush 57, 2)] ⟨dX1_isDigit_6, dX1_isDigit_7, rfl⟩ rfl ?_
    refine t_icmp_gt C 16 12 dX1_isDigit_9 rfl rfl (fun hc4 => ?_) (fun hc4 => ?_)
    · refine t_b C (pc' := 17) (L' := [(0, vI p0)]) (st' := [vI 0]) [(.iconst 0, 1)] ⟨dX1_isDigit_16, rfl⟩ rfl ?_
      refine t_sub C (L' := []) [] rfl ?_
      exact kj2 _ (((if_pos hc4).symm).trans ((if_neg hc3).symm))
    · refine t_b C (pc' := 13) (L' := [(0, vI p0)]) (st' := [vI 1]) [(.iconst 1, 1)] ⟨dX1_isDigit_12, rfl⟩ rfl ?_
      refine t_goto C 17 dX1_isDigit_13 rfl ?_
      refine t_sub C (L' := []) [] rfl ?_
      exact kj2 _ (((if_neg hc4).symm).trans ((if_neg hc3).symm))
def wp_X1_isKnownSign (p0 : Int32) (T : TS) (Q : Int32 → TS → Prop) : Prop :=
  ∀ m1 : Int32, m1 = (if p0 = 59 then 1 else (if p0 = 58 then 1 else (if p0 = 44 then 1 else (if p0 = 46 then 1 else (if p0 = 61 then 1 else (if p0 = 43 then 1 else (if p0 = 45 then 1 else (if p0 = 42 then 1 else (if p0 = 124 then 1 else (if p0 = 38 then 1 else (if p0 = 60 then 1 else (if p0 = 40 then 1 else (if p0 = 41 then 1 else 0))))))))))))) →
  bz m1 ∧ Q m1 T
theorem hd_X1_isKnownSign : yX1_isKnownSign.cls ≠ "java/lang/invoke/MethodHandle" ∧ yX1_isKnownSign.cls ≠ "java/lang/invoke/VarHandle" ∧ (parseMethodDescriptor yX1_isKnownSign.desc).map (fun d => d.parameters.length) = some 1 := by decide +kernel
theorem ok_X1_isKnownSign {l : Launch} {D : va_G} {s0 : S0} (hG : G0 D s0) {o : Nat} {p0 : Int32} {T : TS} {Q : Int32 → TS → Prop} (hw : wp_X1_isKnownSign p0 T Q) : OKt l D s0 o yX1_isKnownSign cX1_isKnownSign 1 (some .boolean) 0 0 [vI p0] T (TI Q) := by
  refine t_met hG rfl rfl (L0 := [(0, vI p0)]) rfl rfl ?_
  intro h K C
  unfold wp_X1_isKnownSign at hw
  refine t_b C (pc' := 3) (L' := [(0, vI p0)]) (st' := [vI 59, vI p0]) [(.iload_n 0, 1), (.bipush 59, 2)] ⟨dX1_isKnownSign_0, dX1_isKnownSign_1, rfl⟩ rfl ?_
  have kj2 : ∀ (m1 : Int32), m1 = (if p0 = 59 then 1 else (if p0 = 58 then 1 else (if p0 = 44 then 1 else (if p0 = 46 then 1 else (if p0 = 61 then 1 else (if p0 = 43 then 1 else (if p0 = 45 then 1 else (if p0 = 42 then 1 else (if p0 = 124 then 1 else (if p0 = 38 then 1 else (if p0 = 60 then 1 else (if p0 = 40 then 1 else (if p0 = 41 then 1 else 0))))))))))))) → K 83 [] [vI m1] T := by
    intro m1 em1
    replace hw := hw m1 em1
    exact t_zret C dX1_isKnownSign_83 (bz_n hw.1) ⟨_, rfl, hw.2⟩
  refine t_icmp_eq C 78 6 dX1_isKnownSign_3 rfl rfl (fun hc3 => ?_) (fun hc3 => ?_)
  · refine t_b C (pc' := 79) (L' := [(0, vI p0)]) (st' := [vI 1]) [(.iconst 1, 1)] ⟨dX1_isKnownSign_78, rfl⟩ rfl ?_
    refine t_goto C 83 dX1_isKnownSign_79 rfl ?_
    refine t_sub C (L' := []) [] rfl ?_
    exact kj2 _ ((if_pos hc3).symm)
  · refine t_b C (pc' := 9) (L' := [(0, vI p0)]) (st' := [vI 58, vI p0]) [(.iload_n 0, 1), (.bipush 58, 2)] ⟨dX1_isKnownSign_6, dX1_isKnownSign_7, rfl⟩ rfl ?_
    refine t_icmp_eq C 78 12 dX1_isKnownSign_9 rfl rfl (fun hc4 => ?_) (fun hc4 => ?_)
    · refine t_b C (pc' := 79) (L' := [(0, vI p0)]) (st' := [vI 1]) [(.iconst 1, 1)] ⟨dX1_isKnownSign_78, rfl⟩ rfl ?_
      refine t_goto C 83 dX1_isKnownSign_79 rfl ?_
      refine t_sub C (L' := []) [] rfl ?_
      exact kj2 _ (((if_pos hc4).symm).trans ((if_neg hc3).symm))
    · refine t_b C (pc' := 15) (L' := [(0, vI p0)]) (st' := [vI 44, vI p0]) [(.iload_n 0, 1), (.bipush 44, 2)] ⟨dX1_isKnownSign_12, dX1_isKnownSign_13, rfl⟩ rfl ?_
      refine t_icmp_eq C 78 18 dX1_isKnownSign_15 rfl rfl (fun hc5 => ?_) (fun hc5 => ?_)
      · refine t_b C (pc' := 79) (L' := [(0, vI p0)]) (st' := [vI 1]) [(.iconst 1, 1)] ⟨dX1_isKnownSign_78, rfl⟩ rfl ?_
        refine t_goto C 83 dX1_isKnownSign_79 rfl ?_
        refine t_sub C (L' := []) [] rfl ?_
        exact kj2 _ ((((if_pos hc5).symm).trans ((if_neg hc4).symm)).trans ((if_neg hc3).symm))
      · refine t_b C (pc' := 21) (L' := [(0, vI p0)]) (st' := [vI 46, vI p0]) [(.iload_n 0, 1), (.bipush 46, 2)] ⟨dX1_isKnownSign_18, dX1_isKnownSign_19, rfl⟩ rfl ?_
        refine t_icmp_eq C 78 24 dX1_isKnownSign_21 rfl rfl (fun hc6 => ?_) (fun hc6 => ?_)
        · refine t_b C (pc' := 79) (L' := [(0, vI p0)]) (st' := [vI 1]) [(.iconst 1, 1)] ⟨dX1_isKnownSign_78, rfl⟩ rfl ?_
          refine t_goto C 83 dX1_isKnownSign_79 rfl ?_
          refine t_sub C (L' := []) [] rfl ?_
          exact kj2 _ (((((if_pos hc6).symm).trans ((if_neg hc5).symm)).trans ((if_neg hc4).symm)).trans ((if_neg hc3).symm))
        · refine t_b C (pc' := 27) (L' := [(0, vI p0)]) (st' := [vI 61, vI p0]) [(.iload_n 0, 1), (.bipush 61, 2)] ⟨dX1_isKnownSign_24, dX1_isKnownSign_25, rfl⟩ rfl ?_
          refine t_icmp_eq C 78 30 dX1_isKnownSign_27 rfl rfl (fun hc7 => ?_) (fun hc7 => ?_)
          · refine t_b C (pc' := 79) (L' := [(0, vI p0)]) (st' := [vI 1]) [(.iconst 1, 1)] ⟨dX1_isKnownSign_78, rfl⟩ rfl ?_
            refine t_goto C 83 dX1_isKnownSign_79 rfl ?_
            refine t_sub C (L' := []) [] rfl ?_
            exact kj2 _ ((((((if_pos hc7).symm).trans ((if_neg hc6).symm)).trans ((if_neg hc5).symm)).trans ((if_neg hc4).symm)).trans ((if_neg hc3).symm))
          · refine t_b C (pc' := 33) (L' := [(0, vI p0)]) (st' := [vI 43, vI p0]) [(.iload_n 0, 1), (.bipush 43, 2)] ⟨dX1_isKnownSign_30, dX1_isKnownSign_31, rfl⟩ rfl ?_
            refine t_icmp_eq C 78 36 dX1_isKnownSign_33 rfl rfl (fun hc8 => ?_) (fun hc8 => ?_)
            · refine t_b C (pc' := 79) (L' := [(0, vI p0)]) (st' := [vI 1]) [(.iconst 1, 1)] ⟨dX1_isKnownSign_78, rfl⟩ rfl ?_
              refine t_goto C 83 dX1_isKnownSign_79 rfl ?_
              refine t_sub C (L' := []) [] rfl ?_
              exact kj2 _ (((((((if_pos hc8).symm).trans ((if_neg hc7).symm)).trans ((if_neg hc6).symm)).trans ((if_neg hc5).symm)).trans ((if_neg hc4).symm)).trans ((if_neg hc3).symm))
            · refine t_b C (pc' := 39) (L' := [(0, vI p0)]) (st' := [vI 45, vI p0]) [(.iload_n 0, 1), (.bipush 45, 2)] ⟨dX1_isKnownSign_36, dX1_isKnownSign_37, rfl⟩ rfl ?_
              refine t_icmp_eq C 78 42 dX1_isKnownSign_39 rfl rfl (fun hc9 => ?_) (fun hc9 => ?_)
              · refine t_b C (pc' := 79) (L' := [(0, vI p0)]) (st' := [vI 1]) [(.iconst 1, 1)] ⟨dX1_isKnownSign_78, rfl⟩ rfl ?_
                refine t_goto C 83 dX1_isKnownSign_79 rfl ?_
                refine t_sub C (L' := []) [] rfl ?_
                exact kj2 _ ((((((((if_pos hc9).symm).trans ((if_neg hc8).symm)).trans ((if_neg hc7).symm)).trans ((if_neg hc6).symm)).trans ((if_neg hc5).symm)).trans ((if_neg hc4).symm)).trans ((if_neg hc3).symm))
              · refine t_b C (pc' := 45) (L' := [(0, vI p0)]) (st' := [vI 42, vI p0]) [(.iload_n 0, 1), (.bipush 42, 2)] ⟨dX1_isKnownSign_42, dX1_isKnownSign_43, rfl⟩ rfl ?_
                refine t_icmp_eq C 78 48 dX1_isKnownSign_45 rfl rfl (fun hc10 => ?_) (fun hc10 => ?_)
                · refine t_b C (pc' := 79) (L' := [(0, vI p0)]) (st' := [vI 1]) [(.iconst 1, 1)] ⟨dX1_isKnownSign_78, rfl⟩ rfl ?_
                  refine t_goto C 83 dX1_isKnownSign_79 rfl ?_
                  refine t_sub C (L' := []) [] rfl ?_
                  exact kj2 _ (((((((((if_pos hc10).symm).trans ((if_neg hc9).symm)).trans ((if_neg hc8).symm)).trans ((if_neg hc7).symm)).trans ((if_neg hc6).symm)).trans ((if_neg hc5).symm)).trans ((if_neg hc4).symm)).trans ((if_neg hc3).symm))
                · refine t_b C (pc' := 51) (L' := [(0, vI p0)]) (st' := [vI 124, vI p0]) [(.iload_n 0, 1), (.bipush 124, 2)] ⟨dX1_isKnownSign_48, dX1_isKnownSign_49, rfl⟩ rfl ?_
                  refine t_icmp_eq C 78 54 dX1_isKnownSign_51 rfl rfl (fun hc11 => ?_) (fun hc11 => ?_)
                  · refine t_b C (pc' := 79) (L' := [(0, vI p0)]) (st' := [vI 1]) [(.iconst 1, 1)] ⟨dX1_isKnownSign_78, rfl⟩ rfl ?_
                    refine t_goto C 83 dX1_isKnownSign_79 rfl ?_
                    refine t_sub C (L' := []) [] rfl ?_
                    exact kj2 _ ((((((((((if_pos hc11).symm).trans ((if_neg hc10).symm)).trans ((if_neg hc9).symm)).trans ((if_neg hc8).symm)).trans ((if_neg hc7).symm)).trans ((if_neg hc6).symm)).trans ((if_neg hc5).symm)).trans ((if_neg hc4).symm)).trans ((if_neg hc3).symm))
                  · refine t_b C (pc' := 57) (L' := [(0, vI p0)]) (st' := [vI 38, vI p0]) [(.iload_n 0, 1), (.bipush 38, 2)] ⟨dX1_isKnownSign_54, dX1_isKnownSign_55, rfl⟩ rfl ?_
                    refine t_icmp_eq C 78 60 dX1_isKnownSign_57 rfl rfl (fun hc12 => ?_) (fun hc12 => ?_)
                    · refine t_b C (pc' := 79) (L' := [(0, vI p0)]) (st' := [vI 1]) [(.iconst 1, 1)] ⟨dX1_isKnownSign_78, rfl⟩ rfl ?_
                      refine t_goto C 83 dX1_isKnownSign_79 rfl ?_
                      refine t_sub C (L' := []) [] rfl ?_
                      exact kj2 _ (((((((((((if_pos hc12).symm).trans ((if_neg hc11).symm)).trans ((if_neg hc10).symm)).trans ((if_neg hc9).symm)).trans ((if_neg hc8).symm)).trans ((if_neg hc7).symm)).trans ((if_neg hc6).symm)).trans ((if_neg hc5).symm)).trans ((if_neg hc4).symm)).trans ((if_neg hc3).symm))
                    · refine t_b C (pc' := 63) (L' := [(0, vI p0)]) (st' := [vI 60, vI p0]) [(.iload_n 0, 1), (.bipush 60, 2)] ⟨dX1_isKnownSign_60, dX1_isKnownSign_61, rfl⟩ rfl ?_
                      refine t_icmp_eq C 78 66 dX1_isKnownSign_63 rfl rfl (fun hc13 => ?_) (fun hc13 => ?_)
                      · refine t_b C (pc' := 79) (L' := [(0, vI p0)]) (st' := [vI 1]) [(.iconst 1, 1)] ⟨dX1_isKnownSign_78, rfl⟩ rfl ?_
                        refine t_goto C 83 dX1_isKnownSign_79 rfl ?_
                        refine t_sub C (L' := []) [] rfl ?_
                        exact kj2 _ ((((((((((((if_pos hc13).symm).trans ((if_neg hc12).symm)).trans ((if_neg hc11).symm)).trans ((if_neg hc10).symm)).trans ((if_neg hc9).symm)).trans ((if_neg hc8).symm)).trans ((if_neg hc7).symm)).trans ((if_neg hc6).symm)).trans ((if_neg hc5).symm)).trans ((if_neg hc4).symm)).trans ((if_neg hc3).symm))
                      · refine t_b C (pc' := 69) (L' := [(0, vI p0)]) (st' := [vI 40, vI p0]) [(.iload_n 0, 1), (.bipush 40, 2)] ⟨dX1_isKnownSign_66, dX1_isKnownSign_67, rfl⟩ rfl ?_
                        refine t_icmp_eq C 78 72 dX1_isKnownSign_69 rfl rfl (fun hc14 => ?_) (fun hc14 => ?_)
                        · refine t_b C (pc' := 79) (L' := [(0, vI p0)]) (st' := [vI 1]) [(.iconst 1, 1)] ⟨dX1_isKnownSign_78, rfl⟩ rfl ?_
                          refine t_goto C 83 dX1_isKnownSign_79 rfl ?_
                          refine t_sub C (L' := []) [] rfl ?_
                          exact kj2 _ (((((((((((((if_pos hc14).symm).trans ((if_neg hc13).symm)).trans ((if_neg hc12).symm)).trans ((if_neg hc11).symm)).trans ((if_neg hc10).symm)).trans ((if_neg hc9).symm)).trans ((if_neg hc8).symm)).trans ((if_neg hc7).symm)).trans ((if_neg hc6).symm)).trans ((if_neg hc5).symm)).trans ((if_neg hc4).symm)).trans ((if_neg hc3).symm))
                        · refine t_b C (pc' := 75) (L' := [(0, vI p0)]) (st' := [vI 41, vI p0]) [(.iload_n 0, 1), (.bipush 41, 2)] ⟨dX1_isKnownSign_72, dX1_isKnownSign_73, rfl⟩ rfl ?_
                          refine t_icmp_ne C 82 78 dX1_isKnownSign_75 rfl rfl (fun hc15 => ?_) (fun hc15 => ?_)
                          · refine t_b C (pc' := 83) (L' := [(0, vI p0)]) (st' := [vI 0]) [(.iconst 0, 1)] ⟨dX1_isKnownSign_82, rfl⟩ rfl ?_
                            refine t_sub C (L' := []) [] rfl ?_
                            exact kj2 _ ((((((((((((((if_neg hc15).symm).trans ((if_neg hc14).symm)).trans ((if_neg hc13).symm)).trans ((if_neg hc12).symm)).trans ((if_neg hc11).symm)).trans ((if_neg hc10).symm)).trans ((if_neg hc9).symm)).trans ((if_neg hc8).symm)).trans ((if_neg hc7).symm)).trans ((if_neg hc6).symm)).trans ((if_neg hc5).symm)).trans ((if_neg hc4).symm)).trans ((if_neg hc3).symm))
                          · refine t_b C (pc' := 79) (L' := [(0, vI p0)]) (st' := [vI 1]) [(.iconst 1, 1)] ⟨dX1_isKnownSign_78, rfl⟩ rfl ?_
                            refine t_goto C 83 dX1_isKnownSign_79 rfl ?_
                            refine t_sub C (L' := []) [] rfl ?_
                            exact kj2 _ ((((((((((((((if_pos hc15).symm).trans ((if_neg hc14).symm)).trans ((if_neg hc13).symm)).trans ((if_neg hc12).symm)).trans ((if_neg hc11).symm)).trans ((if_neg hc10).symm)).trans ((if_neg hc9).symm)).trans ((if_neg hc8).symm)).trans ((if_neg hc7).symm)).trans ((if_neg hc6).symm)).trans ((if_neg hc5).symm)).trans ((if_neg hc4).symm)).trans ((if_neg hc3).symm))
def wp_X1_isLetter (p0 : Int32) (T : TS) (Q : Int32 → TS → Prop) : Prop :=
  ∀ m1 : Int32, m1 = (if p0 < 97 then 0 else (if 122 < p0 then 0 else 1)) →
  bz m1 ∧ Q m1 T
theorem hd_X1_isLetter : yX1_isLetter.cls ≠ "java/lang/invoke/MethodHandle" ∧ yX1_isLetter.cls ≠ "java/lang/invoke/VarHandle" ∧ (parseMethodDescriptor yX1_isLetter.desc).map (fun d => d.parameters.length) = some 1 := by decide +kernel
theorem ok_X1_isLetter {l : Launch} {D : va_G} {s0 : S0} (hG : G0 D s0) {o : Nat} {p0 : Int32} {T : TS} {Q : Int32 → TS → Prop} (hw : wp_X1_isLetter p0 T Q) : OKt l D s0 o yX1_isLetter cX1_isLetter 1 (some .boolean) 0 0 [vI p0] T (TI Q) := by
  refine t_met hG rfl rfl (L0 := [(0, vI p0)]) rfl rfl ?_
  intro h K C
  unfold wp_X1_isLetter at hw
  refine t_b C (pc' := 3) (L' := [(0, vI p0)]) (st' := [vI 97, vI p0]) [(.iload_n 0, 1), (.bipush 97, 2)] ⟨dX1_isLetter_0, dX1_isLetter_1, rfl⟩ rfl ?_
  have kj2 : ∀ (m1 : Int32), m1 = (if p0 < 97 then 0 else (if 122 < p0 then 0 else 1)) → K 17 [] [vI m1] T := by
    intro m1 em1
    replace hw := hw m1 em1
    exact t_zret C dX1_isLetter_17 (bz_n hw.1) ⟨_, rfl, hw.2⟩
  refine t_icmp_lt C 16 6 dX1_isLetter_3 rfl rfl (fun hc3 => ?_) (fun hc3 => ?_)
  · refine t_b C (pc' := 17) (L' := [(0, vI p0)]) (st' := [vI 0]) [(.iconst 0, 1)] ⟨dX1_isLetter_16, rfl⟩ rfl ?_
    refine t_sub C (L' := []) [] rfl ?_
    exact kj2 _ ((if_pos hc3).symm)
  · refine t_b C (pc' := 9) (L' := [(0, vI p0)]) (st' := [vI 122, vI p0]) [(.iload_n 0, 1), (.bipush 122, 2)] ⟨dX1_isLetter_6, dX1_isLetter_7, rfl⟩ rfl ?_
    refine t_icmp_gt C 16 12 dX1_isLetter_9 rfl rfl (fun hc4 => ?_) (fun hc4 => ?_)
    · refine t_b C (pc' := 17) (L' := [(0, vI p0)]) (st' := [vI 0]) [(.iconst 0, 1)] ⟨dX1_isLetter_16, rfl⟩ rfl ?_
      refine t_sub C (L' := []) [] rfl ?_
      exact kj2 _ (((if_pos hc4).symm).trans ((if_neg hc3).symm))
    · refine t_b C (pc' := 13) (L' := [(0, vI p0)]) (st' := [vI 1]) [(.iconst 1, 1)] ⟨dX1_isLetter_12, rfl⟩ rfl ?_
      refine t_goto C 17 dX1_isLetter_13 rfl ?_
      refine t_sub C (L' := []) [] rfl ?_
      exact kj2 _ (((if_neg hc4).symm).trans ((if_neg hc3).symm))
def wp_X1_go  (T : TS) (Q : TS → Prop) : Prop :=
  tlp (σ := Unit) (fun s1 T2 k1 =>
  wp_X1_byteAt (T2.s 212) T2 fun r4 T3 =>
  ((r4 = 32 →
  ∀ T6, T6 = T3.ss 212 ((T3.s 212) + 1) →
  k1 () T6) ∧ (¬ r4 = 32 →
  wp_X1_byteAt (T3.s 212) T3 fun r8 T7 =>
  ((r8 = 10 →
  ∀ T65, T65 = T7.ss 212 ((T7.s 212) + 1) →
  k1 () T65) ∧ (¬ r8 = 10 →
  ∀ T10, T10 = T7.ss 211 (T7.s 212) →
  wp_X1_byteAt (T10.s 212) T10 fun r12 T11 =>
  ((r12 = (-1) →
  ∀ T64, T64 = T11.ss 213 0 →
  Q T64) ∧ (¬ r12 = (-1) →
  wp_X1_isLetter r12 T11 fun r15 T14 =>
  ((r15 = 0 →
  wp_X1_isDigit r12 T14 fun r18 T17 =>
  ((r18 = 0 →
  ∀ T20, T20 = T17.ss 212 ((T17.s 212) + 1) →
  wp_X1_isKnownSign r12 T20 fun r22 T21 =>
  ∀ m23 : Int32, m23 = (if r22 = 0 then 1 else 4) →
  ∀ T25, T25 = T21.ss 213 m23 →
  ∀ T26, T26 = T25.ss 215 r12 →
  Q T26) ∧ (¬ r18 = 0 →
  ∀ T28, T28 = T17.ss 214 0 →
  tlp (σ := Unit) (fun s29 T30 k29 =>
  wp_X1_byteAt (T30.s 212) T30 fun r32 T31 =>
  wp_X1_isDigit r32 T31 fun r34 T33 =>
  ((r34 = 0 →
  ∀ m36 : Int32, m36 = (if ((T33.s 212) - (T33.s 211)) ≤ 4 then 3 else 1) →
  ∀ T38, T38 = T33.ss 213 m36 →
  Q T38) ∧ (¬ r34 = 0 →
  ((4 ≤ ((T33.s 212) - (T33.s 211)) →
  ∀ T41, T41 = T33.ss 212 ((T33.s 212) + 1) →
  k29 () T41) ∧ (¬ 4 ≤ ((T33.s 212) - (T33.s 211)) →
  wp_X1_byteAt (T33.s 212) T33 fun r43 T42 =>
  ∀ T44, T44 = T42.ss 214 (((10 * (T33.s 214)) + r43) - 48) →
  ∀ T45, T45 = T44.ss 212 ((T44.s 212) + 1) →
  k29 () T45))))) () T28))) ∧ (¬ r15 = 0 →
  ∀ T46, T46 = T14.sw 218 0 →
  tlp (σ := Unit) (fun s47 T48 k47 =>
  wp_X1_byteAt (T48.s 212) T48 fun r50 T49 =>
  wp_X1_isLetter r50 T49 fun r52 T51 =>
  ((r52 = 0 →
  ∀ m54 : Int32, m54 = (if ((T51.s 212) - (T51.s 211)) ≤ 8 then 2 else 1) →
  ∀ T56, T56 = T51.ss 213 m54 →
  Q T56) ∧ (¬ r52 = 0 →
  ((8 ≤ ((T51.s 212) - (T51.s 211)) →
  ∀ T59, T59 = T51.ss 212 ((T51.s 212) + 1) →
  k47 () T59) ∧ (¬ 8 ≤ ((T51.s 212) - (T51.s 211)) →
  wp_X1_byteAt (T51.s 212) T51 fun r61 T60 =>
  ∀ T62, T62 = T60.sw 218 (((27 * (T51.w 218)) + (Int32.toInt64 r61)) - 96) →
  ∀ T63, T63 = T62.ss 212 ((T62.s 212) + 1) →
  k47 () T63))))) () T46))))))))) () T
theorem hd_X1_go : yX1_go.cls = RX1 ∧ yX1_go.cls ≠ "java/lang/invoke/MethodHandle" ∧ yX1_go.cls ≠ "java/lang/invoke/VarHandle" ∧ (parseMethodDescriptor yX1_go.desc).map (fun d => d.parameters.length) = some 0 := by decide +kernel
theorem ok_X1_go {l : Launch} {D : va_G} {s0 : S0} (hG : G0 D s0) {o : Nat}  {T : TS} {Q : TS → Prop} (hw : wp_X1_go  T Q) : OKt l D s0 o yX1_go cX1_go 2 none 1 21 [vA (some o)] T (TV Q) := by
  refine t_met hG rfl rfl (L0 := [(0, vA (some o))]) rfl rfl ?_
  intro h K C
  unfold wp_X1_go at hw
  obtain ⟨I1, ⟨n1, hI1⟩, hB1⟩ := tlp.out hw
  refine t_sub C (L' := [(0, vA (some o))]) [0] rfl ?_
  have key1 : ∀ (n : Nat) (s1 : Unit) (T2 : TS), I1 n s1 T2 → K 0 [(0, vA (some o))] [] T2 := by
    intro n
    induction n using Nat.strongRecOn with
    | ind n ih1 =>
      intro s1 T2 hI
      replace hw := hB1 n s1 T2 hI
      refine t_b C (pc' := 2) (L' := [(0, vA (some o))]) (st' := [vA (some o), vA (some o)]) [(.aload_n 0, 1), (.aload_n 0, 1)] ⟨dX1_go_0, dX1_go_1, rfl⟩ rfl ?_
      refine t_gI C 212 5 dX1_go_2 rfl rfl rfl q2200 (fun _ _ _ => rfl) ?_
      refine t_callVI C 8 [vI (T2.s 212)] [] dX1_go_5 rfl (ok_X1_byteAt hG hw) q2446 q2448 qs73 q159 q2449 hd_X1_byteAt ⟨rfl, rfl, rfl⟩ (fun r4 T3 hw => ?_)
      refine t_b C (pc' := 10) (L' := [(0, vA (some o))]) (st' := [vI 32, vI r4]) [(.bipush 32, 2)] ⟨dX1_go_8, rfl⟩ rfl ?_
      refine t_icmp_eq C 26 13 dX1_go_10 rfl rfl (fun hc5 => ?_) (fun hc5 => ?_)
      · replace hw := hw.1 hc5
        refine t_b C (pc' := 28) (L' := [(0, vA (some o))]) (st' := [vA (some o), vA (some o)]) [(.aload_n 0, 1), (.dup, 1)] ⟨dX1_go_26, dX1_go_27, rfl⟩ rfl ?_
        refine t_gI C 212 31 dX1_go_28 rfl rfl rfl q2200 (fun _ _ _ => rfl) ?_
        refine t_b C (pc' := 33) (L' := [(0, vA (some o))]) (st' := [vI ((T3.s 212) + 1), vA (some o)]) [(.iconst 1, 1), (.iadd, 1)] ⟨dX1_go_31, dX1_go_32, rfl⟩ rfl ?_
        refine t_pI C 212 36 dX1_go_33 rfl rfl rfl rfl q2200 (fun _ _ _ => rfl) rfl rfl (fun T6 eT6 => ?_)
        replace hw := hw T6 eT6
        refine t_goto C 0 dX1_go_36 rfl ?_
        refine t_sub C (L' := [(0, vA (some o))]) [0] rfl ?_
        obtain ⟨m9, hm9, hw⟩ := hw
        exact ih1 m9 hm9 () T6 hw
      · replace hw := hw.2 hc5
        refine t_b C (pc' := 15) (L' := [(0, vA (some o))]) (st' := [vA (some o), vA (some o)]) [(.aload_n 0, 1), (.aload_n 0, 1)] ⟨dX1_go_13, dX1_go_14, rfl⟩ rfl ?_
        refine t_gI C 212 18 dX1_go_15 rfl rfl rfl q2200 (fun _ _ _ => rfl) ?_
        refine t_callVI C 21 [vI (T3.s 212)] [] dX1_go_18 rfl (ok_X1_byteAt hG hw) q2446 q2448 qs73 q159 q2449 hd_X1_byteAt ⟨rfl, rfl, rfl⟩ (fun r8 T7 hw => ?_)
        refine t_b C (pc' := 23) (L' := [(0, vA (some o))]) (st' := [vI 10, vI r8]) [(.bipush 10, 2)] ⟨dX1_go_21, rfl⟩ rfl ?_
        refine t_icmp_ne C 39 26 dX1_go_23 rfl rfl (fun hc9 => ?_) (fun hc9 => ?_)
        · replace hw := hw.2 hc9
          refine t_b C (pc' := 41) (L' := [(0, vA (some o))]) (st' := [vA (some o), vA (some o)]) [(.aload_n 0, 1), (.aload_n 0, 1)] ⟨dX1_go_39, dX1_go_40, rfl⟩ rfl ?_
          refine t_gI C 212 44 dX1_go_41 rfl rfl rfl q2200 (fun _ _ _ => rfl) ?_
          refine t_pI C 211 47 dX1_go_44 rfl rfl rfl rfl q2199 (fun _ _ _ => rfl) rfl rfl (fun T10 eT10 => ?_)
          replace hw := hw T10 eT10
          refine t_b C (pc' := 49) (L' := [(0, vA (some o))]) (st' := [vA (some o), vA (some o)]) [(.aload_n 0, 1), (.aload_n 0, 1)] ⟨dX1_go_47, dX1_go_48, rfl⟩ rfl ?_
          refine t_gI C 212 52 dX1_go_49 rfl rfl rfl q2200 (fun _ _ _ => rfl) ?_
          refine t_callVI C 55 [vI (T10.s 212)] [] dX1_go_52 rfl (ok_X1_byteAt hG hw) q2446 q2448 qs73 q159 q2449 hd_X1_byteAt ⟨rfl, rfl, rfl⟩ (fun r12 T11 hw => ?_)
          refine t_b C (pc' := 58) (L' := [(1, vI r12), (0, vA (some o))]) (st' := [vI (-1), vI r12]) [(.istore_n 1, 1), (.iload_n 1, 1), (.iconst (-1), 1)] ⟨dX1_go_55, dX1_go_56, dX1_go_57, rfl⟩ rfl ?_
          refine t_icmp_ne C 69 61 dX1_go_58 rfl rfl (fun hc13 => ?_) (fun hc13 => ?_)
          · replace hw := hw.2 hc13
            refine t_b C (pc' := 70) (L' := [(1, vI r12), (0, vA (some o))]) (st' := [vI r12]) [(.iload_n 1, 1)] ⟨dX1_go_69, rfl⟩ rfl ?_
            refine t_callSI C 73 [vI r12] [] dX1_go_70 rfl (ok_X1_isLetter hG hw) q2450 q2451 q159 q2452 hd_X1_isLetter ⟨rfl, rfl, rfl⟩ (fun r15 T14 hw => ?_)
            refine t_if_eq C 174 76 dX1_go_73 rfl rfl (fun hc16 => ?_) (fun hc16 => ?_)
            · replace hw := hw.1 hc16
              refine t_b C (pc' := 175) (L' := [(1, vI r12), (0, vA (some o))]) (st' := [vI r12]) [(.iload_n 1, 1)] ⟨dX1_go_174, rfl⟩ rfl ?_
              refine t_callSI C 178 [vI r12] [] dX1_go_175 rfl (ok_X1_isDigit hG hw) q2455 q2456 q159 q2457 hd_X1_isDigit ⟨rfl, rfl, rfl⟩ (fun r18 T17 hw => ?_)
              refine t_if_eq C 274 181 dX1_go_178 rfl rfl (fun hc19 => ?_) (fun hc19 => ?_)
              · replace hw := hw.1 hc19
                refine t_b C (pc' := 276) (L' := [(1, vI r12), (0, vA (some o))]) (st' := [vA (some o), vA (some o)]) [(.aload_n 0, 1), (.dup, 1)] ⟨dX1_go_274, dX1_go_275, rfl⟩ rfl ?_
                refine t_gI C 212 279 dX1_go_276 rfl rfl rfl q2200 (fun _ _ _ => rfl) ?_
                refine t_b C (pc' := 281) (L' := [(1, vI r12), (0, vA (some o))]) (st' := [vI ((T17.s 212) + 1), vA (some o)]) [(.iconst 1, 1), (.iadd, 1)] ⟨dX1_go_279, dX1_go_280, rfl⟩ rfl ?_
                refine t_pI C 212 284 dX1_go_281 rfl rfl rfl rfl q2200 (fun _ _ _ => rfl) rfl rfl (fun T20 eT20 => ?_)
                replace hw := hw T20 eT20
                refine t_b C (pc' := 286) (L' := [(1, vI r12), (0, vA (some o))]) (st' := [vI r12, vA (some o)]) [(.aload_n 0, 1), (.iload_n 1, 1)] ⟨dX1_go_284, dX1_go_285, rfl⟩ rfl ?_
                refine t_callSI C 289 [vI r12] [vA (some o)] dX1_go_286 rfl (ok_X1_isKnownSign hG hw) q2458 q2459 q159 q2460 hd_X1_isKnownSign ⟨rfl, rfl, rfl⟩ (fun r22 T21 hw => ?_)
                have kj24 : ∀ (m23 : Int32), m23 = (if r22 = 0 then 1 else 4) → K 297 [(0, vA (some o)), (1, vI r12)] [vI m23, vA (some o)] T21 := by
                  intro m23 em23
                  replace hw := hw m23 em23
                  refine t_pI C 213 300 dX1_go_297 rfl rfl rfl rfl q2201 (fun _ _ _ => rfl) rfl rfl (fun T25 eT25 => ?_)
                  replace hw := hw T25 eT25
                  refine t_b C (pc' := 302) (L' := [(0, vA (some o)), (1, vI r12)]) (st' := [vI r12, vA (some o)]) [(.aload_n 0, 1), (.iload_n 1, 1)] ⟨dX1_go_300, dX1_go_301, rfl⟩ rfl ?_
                  refine t_pI C 215 305 dX1_go_302 rfl rfl rfl rfl q2203 (fun _ _ _ => rfl) rfl rfl (fun T26 eT26 => ?_)
                  replace hw := hw T26 eT26
                  exact t_vret C dX1_go_305 ⟨rfl, hw⟩
                refine t_if_eq C 296 292 dX1_go_289 rfl rfl (fun hc27 => ?_) (fun hc27 => ?_)
                · refine t_b C (pc' := 297) (L' := [(1, vI r12), (0, vA (some o))]) (st' := [vI 1, vA (some o)]) [(.iconst 1, 1)] ⟨dX1_go_296, rfl⟩ rfl ?_
                  refine t_sub C (L' := [(0, vA (some o)), (1, vI r12)]) [1, 0] rfl ?_
                  exact kj24 _ ((if_pos hc27).symm)
                · refine t_b C (pc' := 293) (L' := [(1, vI r12), (0, vA (some o))]) (st' := [vI 4, vA (some o)]) [(.iconst 4, 1)] ⟨dX1_go_292, rfl⟩ rfl ?_
                  refine t_goto C 297 dX1_go_293 rfl ?_
                  refine t_sub C (L' := [(0, vA (some o)), (1, vI r12)]) [1, 0] rfl ?_
                  exact kj24 _ ((if_neg hc27).symm)
              · replace hw := hw.2 hc19
                refine t_b C (pc' := 183) (L' := [(1, vI r12), (0, vA (some o))]) (st' := [vI 0, vA (some o)]) [(.aload_n 0, 1), (.iconst 0, 1)] ⟨dX1_go_181, dX1_go_182, rfl⟩ rfl ?_
                refine t_pI C 214 186 dX1_go_183 rfl rfl rfl rfl q2202 (fun _ _ _ => rfl) rfl rfl (fun T28 eT28 => ?_)
                replace hw := hw T28 eT28
                obtain ⟨I29, ⟨n29, hI29⟩, hB29⟩ := tlp.out hw
                refine t_sub C (L' := [(0, vA (some o))]) [1] rfl ?_
                have key29 : ∀ (n : Nat) (s29 : Unit) (T30 : TS), I29 n s29 T30 → K 186 [(0, vA (some o))] [] T30 := by
                  intro n
                  induction n using Nat.strongRecOn with
                  | ind n ih29 =>
                    intro s29 T30 hI
                    replace hw := hB29 n s29 T30 hI
                    refine t_b C (pc' := 188) (L' := [(0, vA (some o))]) (st' := [vA (some o), vA (some o)]) [(.aload_n 0, 1), (.aload_n 0, 1)] ⟨dX1_go_186, dX1_go_187, rfl⟩ rfl ?_
                    refine t_gI C 212 191 dX1_go_188 rfl rfl rfl q2200 (fun _ _ _ => rfl) ?_
                    refine t_callVI C 194 [vI (T30.s 212)] [] dX1_go_191 rfl (ok_X1_byteAt hG hw) q2446 q2448 qs73 q159 q2449 hd_X1_byteAt ⟨rfl, rfl, rfl⟩ (fun r32 T31 hw => ?_)
                    refine t_callSI C 197 [vI r32] [] dX1_go_194 rfl (ok_X1_isDigit hG hw) q2455 q2456 q159 q2457 hd_X1_isDigit ⟨rfl, rfl, rfl⟩ (fun r34 T33 hw => ?_)
                    refine t_if_eq C 249 200 dX1_go_197 rfl rfl (fun hc35 => ?_) (fun hc35 => ?_)
                    · replace hw := hw.1 hc35
                      refine t_b C (pc' := 251) (L' := [(0, vA (some o))]) (st' := [vA (some o), vA (some o)]) [(.aload_n 0, 1), (.aload_n 0, 1)] ⟨dX1_go_249, dX1_go_250, rfl⟩ rfl ?_
                      refine t_gI C 212 254 dX1_go_251 rfl rfl rfl q2200 (fun _ _ _ => rfl) ?_
                      refine t_b C (pc' := 255) (L' := [(0, vA (some o))]) (st' := [vA (some o), vI (T33.s 212), vA (some o)]) [(.aload_n 0, 1)] ⟨dX1_go_254, rfl⟩ rfl ?_
                      refine t_gI C 211 258 dX1_go_255 rfl rfl rfl q2199 (fun _ _ _ => rfl) ?_
                      refine t_b C (pc' := 260) (L' := [(0, vA (some o))]) (st' := [vI 4, vI ((T33.s 212) - (T33.s 211)), vA (some o)]) [(.isub, 1), (.iconst 4, 1)] ⟨dX1_go_258, dX1_go_259, rfl⟩ rfl ?_
                      have kj37 : ∀ (m36 : Int32), m36 = (if ((T33.s 212) - (T33.s 211)) ≤ 4 then 3 else 1) → K 268 [] [vI m36, vA (some o)] T33 := by
                        intro m36 em36
                        replace hw := hw m36 em36
                        refine t_pI C 213 271 dX1_go_268 rfl rfl rfl rfl q2201 (fun _ _ _ => rfl) rfl rfl (fun T38 eT38 => ?_)
                        replace hw := hw T38 eT38
                        refine t_goto C 305 dX1_go_271 rfl ?_
                        exact t_vret C dX1_go_305 ⟨rfl, hw⟩
                      refine t_icmp_le C 267 263 dX1_go_260 rfl rfl (fun hc39 => ?_) (fun hc39 => ?_)
                      · refine t_b C (pc' := 268) (L' := [(0, vA (some o))]) (st' := [vI 3, vA (some o)]) [(.iconst 3, 1)] ⟨dX1_go_267, rfl⟩ rfl ?_
                        refine t_sub C (L' := []) [] rfl ?_
                        exact kj37 _ ((if_pos hc39).symm)
                      · refine t_b C (pc' := 264) (L' := [(0, vA (some o))]) (st' := [vI 1, vA (some o)]) [(.iconst 1, 1)] ⟨dX1_go_263, rfl⟩ rfl ?_
                        refine t_goto C 268 dX1_go_264 rfl ?_
                        refine t_sub C (L' := []) [] rfl ?_
                        exact kj37 _ ((if_neg hc39).symm)
                    · replace hw := hw.2 hc35
                      refine t_b C (pc' := 201) (L' := [(0, vA (some o))]) (st' := [vA (some o)]) [(.aload_n 0, 1)] ⟨dX1_go_200, rfl⟩ rfl ?_
                      refine t_gI C 212 204 dX1_go_201 rfl rfl rfl q2200 (fun _ _ _ => rfl) ?_
                      refine t_b C (pc' := 205) (L' := [(0, vA (some o))]) (st' := [vA (some o), vI (T33.s 212)]) [(.aload_n 0, 1)] ⟨dX1_go_204, rfl⟩ rfl ?_
                      refine t_gI C 211 208 dX1_go_205 rfl rfl rfl q2199 (fun _ _ _ => rfl) ?_
                      refine t_b C (pc' := 210) (L' := [(0, vA (some o))]) (st' := [vI 4, vI ((T33.s 212) - (T33.s 211))]) [(.isub, 1), (.iconst 4, 1)] ⟨dX1_go_208, dX1_go_209, rfl⟩ rfl ?_
                      refine t_icmp_ge C 236 213 dX1_go_210 rfl rfl (fun hc40 => ?_) (fun hc40 => ?_)
                      · replace hw := hw.1 hc40
                        refine t_b C (pc' := 238) (L' := [(0, vA (some o))]) (st' := [vA (some o), vA (some o)]) [(.aload_n 0, 1), (.dup, 1)] ⟨dX1_go_236, dX1_go_237, rfl⟩ rfl ?_
                        refine t_gI C 212 241 dX1_go_238 rfl rfl rfl q2200 (fun _ _ _ => rfl) ?_
                        refine t_b C (pc' := 243) (L' := [(0, vA (some o))]) (st' := [vI ((T33.s 212) + 1), vA (some o)]) [(.iconst 1, 1), (.iadd, 1)] ⟨dX1_go_241, dX1_go_242, rfl⟩ rfl ?_
                        refine t_pI C 212 246 dX1_go_243 rfl rfl rfl rfl q2200 (fun _ _ _ => rfl) rfl rfl (fun T41 eT41 => ?_)
                        replace hw := hw T41 eT41
                        refine t_goto C 186 dX1_go_246 rfl ?_
                        refine t_sub C (L' := [(0, vA (some o))]) [0] rfl ?_
                        obtain ⟨m9, hm9, hw⟩ := hw
                        exact ih29 m9 hm9 () T41 hw
                      · replace hw := hw.2 hc40
                        refine t_b C (pc' := 217) (L' := [(0, vA (some o))]) (st' := [vA (some o), vI 10, vA (some o)]) [(.aload_n 0, 1), (.bipush 10, 2), (.aload_n 0, 1)] ⟨dX1_go_213, dX1_go_214, dX1_go_216, rfl⟩ rfl ?_
                        refine t_gI C 214 220 dX1_go_217 rfl rfl rfl q2202 (fun _ _ _ => rfl) ?_
                        refine t_b C (pc' := 223) (L' := [(0, vA (some o))]) (st' := [vA (some o), vA (some o), vI (10 * (T33.s 214)), vA (some o)]) [(.imul, 1), (.aload_n 0, 1), (.aload_n 0, 1)] ⟨dX1_go_220, dX1_go_221, dX1_go_222, rfl⟩ rfl ?_
                        refine t_gI C 212 226 dX1_go_223 rfl rfl rfl q2200 (fun _ _ _ => rfl) ?_
                        refine t_callVI C 229 [vI (T33.s 212)] [vI (10 * (T33.s 214)), vA (some o)] dX1_go_226 rfl (ok_X1_byteAt hG hw) q2446 q2448 qs73 q159 q2449 hd_X1_byteAt ⟨rfl, rfl, rfl⟩ (fun r43 T42 hw => ?_)
                        refine t_b C (pc' := 233) (L' := [(0, vA (some o))]) (st' := [vI (((10 * (T33.s 214)) + r43) - 48), vA (some o)]) [(.iadd, 1), (.bipush 48, 2), (.isub, 1)] ⟨dX1_go_229, dX1_go_230, dX1_go_232, rfl⟩ rfl ?_
                        refine t_pI C 214 236 dX1_go_233 rfl rfl rfl rfl q2202 (fun _ _ _ => rfl) rfl rfl (fun T44 eT44 => ?_)
                        replace hw := hw T44 eT44
                        refine t_b C (pc' := 238) (L' := [(0, vA (some o))]) (st' := [vA (some o), vA (some o)]) [(.aload_n 0, 1), (.dup, 1)] ⟨dX1_go_236, dX1_go_237, rfl⟩ rfl ?_
                        refine t_gI C 212 241 dX1_go_238 rfl rfl rfl q2200 (fun _ _ _ => rfl) ?_
                        refine t_b C (pc' := 243) (L' := [(0, vA (some o))]) (st' := [vI ((T44.s 212) + 1), vA (some o)]) [(.iconst 1, 1), (.iadd, 1)] ⟨dX1_go_241, dX1_go_242, rfl⟩ rfl ?_
                        refine t_pI C 212 246 dX1_go_243 rfl rfl rfl rfl q2200 (fun _ _ _ => rfl) rfl rfl (fun T45 eT45 => ?_)
                        replace hw := hw T45 eT45
                        refine t_goto C 186 dX1_go_246 rfl ?_
                        refine t_sub C (L' := [(0, vA (some o))]) [0] rfl ?_
                        obtain ⟨m9, hm9, hw⟩ := hw
                        exact ih29 m9 hm9 () T45 hw
                exact key29 n29 () T28 hI29
            · replace hw := hw.2 hc16
              refine t_b C (pc' := 78) (L' := [(1, vI r12), (0, vA (some o))]) (st' := [vJ 0, vA (some o)]) [(.aload_n 0, 1), (.lconst 0, 1)] ⟨dX1_go_76, dX1_go_77, rfl⟩ rfl ?_
              refine t_pJ C 218 81 dX1_go_78 rfl rfl rfl rfl q2206 (fun _ _ _ => rfl) rfl rfl (fun T46 eT46 => ?_)
              replace hw := hw T46 eT46
              obtain ⟨I47, ⟨n47, hI47⟩, hB47⟩ := tlp.out hw
              refine t_sub C (L' := [(0, vA (some o))]) [1] rfl ?_
              have key47 : ∀ (n : Nat) (s47 : Unit) (T48 : TS), I47 n s47 T48 → K 81 [(0, vA (some o))] [] T48 := by
                intro n
                induction n using Nat.strongRecOn with
                | ind n ih47 =>
                  intro s47 T48 hI
                  replace hw := hB47 n s47 T48 hI
                  refine t_b C (pc' := 83) (L' := [(0, vA (some o))]) (st' := [vA (some o), vA (some o)]) [(.aload_n 0, 1), (.aload_n 0, 1)] ⟨dX1_go_81, dX1_go_82, rfl⟩ rfl ?_
                  refine t_gI C 212 86 dX1_go_83 rfl rfl rfl q2200 (fun _ _ _ => rfl) ?_
                  refine t_callVI C 89 [vI (T48.s 212)] [] dX1_go_86 rfl (ok_X1_byteAt hG hw) q2446 q2448 qs73 q159 q2449 hd_X1_byteAt ⟨rfl, rfl, rfl⟩ (fun r50 T49 hw => ?_)
                  refine t_callSI C 92 [vI r50] [] dX1_go_89 rfl (ok_X1_isLetter hG hw) q2450 q2451 q159 q2452 hd_X1_isLetter ⟨rfl, rfl, rfl⟩ (fun r52 T51 hw => ?_)
                  refine t_if_eq C 148 95 dX1_go_92 rfl rfl (fun hc53 => ?_) (fun hc53 => ?_)
                  · replace hw := hw.1 hc53
                    refine t_b C (pc' := 150) (L' := [(0, vA (some o))]) (st' := [vA (some o), vA (some o)]) [(.aload_n 0, 1), (.aload_n 0, 1)] ⟨dX1_go_148, dX1_go_149, rfl⟩ rfl ?_
                    refine t_gI C 212 153 dX1_go_150 rfl rfl rfl q2200 (fun _ _ _ => rfl) ?_
                    refine t_b C (pc' := 154) (L' := [(0, vA (some o))]) (st' := [vA (some o), vI (T51.s 212), vA (some o)]) [(.aload_n 0, 1)] ⟨dX1_go_153, rfl⟩ rfl ?_
                    refine t_gI C 211 157 dX1_go_154 rfl rfl rfl q2199 (fun _ _ _ => rfl) ?_
                    refine t_b C (pc' := 160) (L' := [(0, vA (some o))]) (st' := [vI 8, vI ((T51.s 212) - (T51.s 211)), vA (some o)]) [(.isub, 1), (.bipush 8, 2)] ⟨dX1_go_157, dX1_go_158, rfl⟩ rfl ?_
                    have kj55 : ∀ (m54 : Int32), m54 = (if ((T51.s 212) - (T51.s 211)) ≤ 8 then 2 else 1) → K 168 [] [vI m54, vA (some o)] T51 := by
                      intro m54 em54
                      replace hw := hw m54 em54
                      refine t_pI C 213 171 dX1_go_168 rfl rfl rfl rfl q2201 (fun _ _ _ => rfl) rfl rfl (fun T56 eT56 => ?_)
                      replace hw := hw T56 eT56
                      refine t_goto C 305 dX1_go_171 rfl ?_
                      exact t_vret C dX1_go_305 ⟨rfl, hw⟩
                    refine t_icmp_le C 167 163 dX1_go_160 rfl rfl (fun hc57 => ?_) (fun hc57 => ?_)
                    · refine t_b C (pc' := 168) (L' := [(0, vA (some o))]) (st' := [vI 2, vA (some o)]) [(.iconst 2, 1)] ⟨dX1_go_167, rfl⟩ rfl ?_
                      refine t_sub C (L' := []) [] rfl ?_
                      exact kj55 _ ((if_pos hc57).symm)
                    · refine t_b C (pc' := 164) (L' := [(0, vA (some o))]) (st' := [vI 1, vA (some o)]) [(.iconst 1, 1)] ⟨dX1_go_163, rfl⟩ rfl ?_
                      refine t_goto C 168 dX1_go_164 rfl ?_
                      refine t_sub C (L' := []) [] rfl ?_
                      exact kj55 _ ((if_neg hc57).symm)
                  · replace hw := hw.2 hc53
                    refine t_b C (pc' := 96) (L' := [(0, vA (some o))]) (st' := [vA (some o)]) [(.aload_n 0, 1)] ⟨dX1_go_95, rfl⟩ rfl ?_
                    refine t_gI C 212 99 dX1_go_96 rfl rfl rfl q2200 (fun _ _ _ => rfl) ?_
                    refine t_b C (pc' := 100) (L' := [(0, vA (some o))]) (st' := [vA (some o), vI (T51.s 212)]) [(.aload_n 0, 1)] ⟨dX1_go_99, rfl⟩ rfl ?_
                    refine t_gI C 211 103 dX1_go_100 rfl rfl rfl q2199 (fun _ _ _ => rfl) ?_
                    refine t_b C (pc' := 106) (L' := [(0, vA (some o))]) (st' := [vI 8, vI ((T51.s 212) - (T51.s 211))]) [(.isub, 1), (.bipush 8, 2)] ⟨dX1_go_103, dX1_go_104, rfl⟩ rfl ?_
                    refine t_icmp_ge C 135 109 dX1_go_106 rfl rfl (fun hc58 => ?_) (fun hc58 => ?_)
                    · replace hw := hw.1 hc58
                      refine t_b C (pc' := 137) (L' := [(0, vA (some o))]) (st' := [vA (some o), vA (some o)]) [(.aload_n 0, 1), (.dup, 1)] ⟨dX1_go_135, dX1_go_136, rfl⟩ rfl ?_
                      refine t_gI C 212 140 dX1_go_137 rfl rfl rfl q2200 (fun _ _ _ => rfl) ?_
                      refine t_b C (pc' := 142) (L' := [(0, vA (some o))]) (st' := [vI ((T51.s 212) + 1), vA (some o)]) [(.iconst 1, 1), (.iadd, 1)] ⟨dX1_go_140, dX1_go_141, rfl⟩ rfl ?_
                      refine t_pI C 212 145 dX1_go_142 rfl rfl rfl rfl q2200 (fun _ _ _ => rfl) rfl rfl (fun T59 eT59 => ?_)
                      replace hw := hw T59 eT59
                      refine t_goto C 81 dX1_go_145 rfl ?_
                      refine t_sub C (L' := [(0, vA (some o))]) [0] rfl ?_
                      obtain ⟨m9, hm9, hw⟩ := hw
                      exact ih47 m9 hm9 () T59 hw
                    · replace hw := hw.2 hc58
                      refine t_b C (pc' := 110) (L' := [(0, vA (some o))]) (st' := [vA (some o)]) [(.aload_n 0, 1)] ⟨dX1_go_109, rfl⟩ rfl ?_
                      refine t_ldc2 C (v := 27) 113 dX1_go_110 rfl q2453 ?_
                      refine t_b C (pc' := 114) (L' := [(0, vA (some o))]) (st' := [vA (some o), vJ 27, vA (some o)]) [(.aload_n 0, 1)] ⟨dX1_go_113, rfl⟩ rfl ?_
                      refine t_gJ C 218 117 dX1_go_114 rfl rfl rfl q2206 (fun _ _ _ => rfl) ?_
                      refine t_b C (pc' := 120) (L' := [(0, vA (some o))]) (st' := [vA (some o), vA (some o), vJ (27 * (T51.w 218)), vA (some o)]) [(.lmul, 1), (.aload_n 0, 1), (.aload_n 0, 1)] ⟨dX1_go_117, dX1_go_118, dX1_go_119, rfl⟩ rfl ?_
                      refine t_gI C 212 123 dX1_go_120 rfl rfl rfl q2200 (fun _ _ _ => rfl) ?_
                      refine t_callVI C 126 [vI (T51.s 212)] [vJ (27 * (T51.w 218)), vA (some o)] dX1_go_123 rfl (ok_X1_byteAt hG hw) q2446 q2448 qs73 q159 q2449 hd_X1_byteAt ⟨rfl, rfl, rfl⟩ (fun r61 T60 hw => ?_)
                      refine t_b C (pc' := 128) (L' := [(0, vA (some o))]) (st' := [vJ ((27 * (T51.w 218)) + (Int32.toInt64 r61)), vA (some o)]) [(.i2l, 1), (.ladd, 1)] ⟨dX1_go_126, dX1_go_127, rfl⟩ rfl ?_
                      refine t_ldc2 C (v := 96) 131 dX1_go_128 rfl q2454 ?_
                      refine t_b C (pc' := 132) (L' := [(0, vA (some o))]) (st' := [vJ (((27 * (T51.w 218)) + (Int32.toInt64 r61)) - 96), vA (some o)]) [(.lsub, 1)] ⟨dX1_go_131, rfl⟩ rfl ?_
                      refine t_pJ C 218 135 dX1_go_132 rfl rfl rfl rfl q2206 (fun _ _ _ => rfl) rfl rfl (fun T62 eT62 => ?_)
                      replace hw := hw T62 eT62
                      refine t_b C (pc' := 137) (L' := [(0, vA (some o))]) (st' := [vA (some o), vA (some o)]) [(.aload_n 0, 1), (.dup, 1)] ⟨dX1_go_135, dX1_go_136, rfl⟩ rfl ?_
                      refine t_gI C 212 140 dX1_go_137 rfl rfl rfl q2200 (fun _ _ _ => rfl) ?_
                      refine t_b C (pc' := 142) (L' := [(0, vA (some o))]) (st' := [vI ((T62.s 212) + 1), vA (some o)]) [(.iconst 1, 1), (.iadd, 1)] ⟨dX1_go_140, dX1_go_141, rfl⟩ rfl ?_
                      refine t_pI C 212 145 dX1_go_142 rfl rfl rfl rfl q2200 (fun _ _ _ => rfl) rfl rfl (fun T63 eT63 => ?_)
                      replace hw := hw T63 eT63
                      refine t_goto C 81 dX1_go_145 rfl ?_
                      refine t_sub C (L' := [(0, vA (some o))]) [0] rfl ?_
                      obtain ⟨m9, hm9, hw⟩ := hw
                      exact ih47 m9 hm9 () T63 hw
              exact key47 n47 () T46 hI47
          · replace hw := hw.1 hc13
            refine t_b C (pc' := 63) (L' := [(1, vI r12), (0, vA (some o))]) (st' := [vI 0, vA (some o)]) [(.aload_n 0, 1), (.iconst 0, 1)] ⟨dX1_go_61, dX1_go_62, rfl⟩ rfl ?_
            refine t_pI C 213 66 dX1_go_63 rfl rfl rfl rfl q2201 (fun _ _ _ => rfl) rfl rfl (fun T64 eT64 => ?_)
            replace hw := hw T64 eT64
            refine t_goto C 305 dX1_go_66 rfl ?_
            exact t_vret C dX1_go_305 ⟨rfl, hw⟩
        · replace hw := hw.1 hc9
          refine t_b C (pc' := 28) (L' := [(0, vA (some o))]) (st' := [vA (some o), vA (some o)]) [(.aload_n 0, 1), (.dup, 1)] ⟨dX1_go_26, dX1_go_27, rfl⟩ rfl ?_
          refine t_gI C 212 31 dX1_go_28 rfl rfl rfl q2200 (fun _ _ _ => rfl) ?_
          refine t_b C (pc' := 33) (L' := [(0, vA (some o))]) (st' := [vI ((T7.s 212) + 1), vA (some o)]) [(.iconst 1, 1), (.iadd, 1)] ⟨dX1_go_31, dX1_go_32, rfl⟩ rfl ?_
          refine t_pI C 212 36 dX1_go_33 rfl rfl rfl rfl q2200 (fun _ _ _ => rfl) rfl rfl (fun T65 eT65 => ?_)
          replace hw := hw T65 eT65
          refine t_goto C 0 dX1_go_36 rfl ?_
          refine t_sub C (L' := [(0, vA (some o))]) [0] rfl ?_
          obtain ⟨m9, hm9, hw⟩ := hw
          exact ih1 m9 hm9 () T65 hw
  exact key1 n1 () T hI1
def wp_X1_begins (p0 : Int32) (T : TS) (Q : TS → Prop) : Prop :=
  ∀ T1, T1 = T.ss 210 p0 →
  ∀ T2, T2 = T1.ss 205 0 →
  ∀ T3, T3 = T2.ss 212 0 →
  ∀ T4, T4 = T3.ss 216 0 →
  ∀ T5, T5 = T4.ss 217 (-1) →
  wp_X1_go  T5 fun T6 =>
  Q T6
theorem hd_X1_begins : yX1_begins.cls = RX1 ∧ yX1_begins.cls ≠ "java/lang/invoke/MethodHandle" ∧ yX1_begins.cls ≠ "java/lang/invoke/VarHandle" ∧ (parseMethodDescriptor yX1_begins.desc).map (fun d => d.parameters.length) = some 1 := by decide +kernel
theorem ok_X1_begins {l : Launch} {D : va_G} {s0 : S0} (hG : G0 D s0) {o : Nat} {p0 : Int32} {T : TS} {Q : TS → Prop} (hw : wp_X1_begins p0 T Q) : OKt l D s0 o yX1_begins cX1_begins 2 none 2 42 [vA (some o), vI p0] T (TV Q) := by
  refine t_met hG rfl rfl (L0 := [(0, vA (some o)), (1, vI p0)]) rfl rfl ?_
  intro h K C
  unfold wp_X1_begins at hw
  refine t_b C (pc' := 2) (L' := [(0, vA (some o)), (1, vI p0)]) (st' := [vI p0, vA (some o)]) [(.aload_n 0, 1), (.iload_n 1, 1)] ⟨dX1_begins_0, dX1_begins_1, rfl⟩ rfl ?_
  refine t_pI C 210 5 dX1_begins_2 rfl rfl rfl rfl q2198 (fun _ _ _ => rfl) rfl rfl (fun T1 eT1 => ?_)
  replace hw := hw T1 eT1
  refine t_b C (pc' := 7) (L' := [(0, vA (some o)), (1, vI p0)]) (st' := [vI 0, vA (some o)]) [(.aload_n 0, 1), (.iconst 0, 1)] ⟨dX1_begins_5, dX1_begins_6, rfl⟩ rfl ?_
  refine t_pI C 205 10 dX1_begins_7 rfl rfl rfl rfl q2193 (fun _ _ _ => rfl) rfl rfl (fun T2 eT2 => ?_)
  replace hw := hw T2 eT2
  refine t_b C (pc' := 12) (L' := [(0, vA (some o)), (1, vI p0)]) (st' := [vI 0, vA (some o)]) [(.aload_n 0, 1), (.iconst 0, 1)] ⟨dX1_begins_10, dX1_begins_11, rfl⟩ rfl ?_
  refine t_pI C 212 15 dX1_begins_12 rfl rfl rfl rfl q2200 (fun _ _ _ => rfl) rfl rfl (fun T3 eT3 => ?_)
  replace hw := hw T3 eT3
  refine t_b C (pc' := 17) (L' := [(0, vA (some o)), (1, vI p0)]) (st' := [vI 0, vA (some o)]) [(.aload_n 0, 1), (.iconst 0, 1)] ⟨dX1_begins_15, dX1_begins_16, rfl⟩ rfl ?_
  refine t_pI C 216 20 dX1_begins_17 rfl rfl rfl rfl q2204 (fun _ _ _ => rfl) rfl rfl (fun T4 eT4 => ?_)
  replace hw := hw T4 eT4
  refine t_b C (pc' := 22) (L' := [(0, vA (some o)), (1, vI p0)]) (st' := [vI (-1), vA (some o)]) [(.aload_n 0, 1), (.iconst (-1), 1)] ⟨dX1_begins_20, dX1_begins_21, rfl⟩ rfl ?_
  refine t_pI C 217 25 dX1_begins_22 rfl rfl rfl rfl q2205 (fun _ _ _ => rfl) rfl rfl (fun T5 eT5 => ?_)
  replace hw := hw T5 eT5
  refine t_b C (pc' := 26) (L' := [(0, vA (some o)), (1, vI p0)]) (st' := [vA (some o)]) [(.aload_n 0, 1)] ⟨dX1_begins_25, rfl⟩ rfl ?_
  refine t_callVV C 29 [] [] dX1_begins_26 rfl (ok_X1_go hG hw) q2442 q2444 qs72 q159 q2445 hd_X1_go ⟨rfl, rfl, rfl⟩ (fun T6 hw => ?_)
  exact t_vret C dX1_begins_29 ⟨rfl, hw⟩
def wp_X1_beginsChange  (T : TS) (Q : TS → Prop) : Prop :=
  tlp (σ := Int32) (fun s1 T2 k1 =>
  ((320 ≤ s1 →
  Q T2) ∧ (¬ 320 ≤ s1 →
  tix 39 42 s1 ∧
  ∀ T4, T4 = T2.sa 39 (ni s1) (vp_nar .boolean 0) →
  tix 40 42 s1 ∧
  ∀ T5, T5 = T4.sa 40 (ni s1) (vp_nar .boolean 0) →
  tix 41 42 s1 ∧
  ∀ T6, T6 = T5.sa 41 (ni s1) (vp_nar .boolean 0) →
  tix 28 40 s1 ∧
  tix 32 40 s1 ∧
  ∀ T7, T7 = T6.sa 32 (ni s1) (T6.a 28 (ni s1)) →
  tix 29 40 s1 ∧
  tix 33 40 s1 ∧
  ∀ T8, T8 = T7.sa 33 (ni s1) (T7.a 29 (ni s1)) →
  k1 (s1 + 1) T8))) 0 T
theorem hd_X1_beginsChange : yX1_beginsChange.cls = RX1 ∧ yX1_beginsChange.cls ≠ "java/lang/invoke/MethodHandle" ∧ yX1_beginsChange.cls ≠ "java/lang/invoke/VarHandle" ∧ (parseMethodDescriptor yX1_beginsChange.desc).map (fun d => d.parameters.length) = some 0 := by decide +kernel
theorem ok_X1_beginsChange {l : Launch} {D : va_G} {s0 : S0} (hG : G0 D s0) {o : Nat}  {T : TS} {Q : TS → Prop} (hw : wp_X1_beginsChange  T Q) : OKt l D s0 o yX1_beginsChange cX1_beginsChange 2 none 0 0 [vA (some o)] T (TV Q) := by
  refine t_met hG rfl rfl (L0 := [(0, vA (some o))]) rfl rfl ?_
  intro h K C
  unfold wp_X1_beginsChange at hw
  refine t_b C (pc' := 2) (L' := [(1, vI 0), (0, vA (some o))]) (st' := []) [(.iconst 0, 1), (.istore_n 1, 1)] ⟨dX1_beginsChange_0, dX1_beginsChange_1, rfl⟩ rfl ?_
  obtain ⟨I1, ⟨n1, hI1⟩, hB1⟩ := tlp.out hw
  refine t_sub C (L' := [(0, vA (some o)), (1, vI 0)]) [1, 0] rfl ?_
  have key1 : ∀ (n : Nat) (s1 : Int32) (T2 : TS), I1 n s1 T2 → K 2 [(0, vA (some o)), (1, vI s1)] [] T2 := by
    intro n
    induction n using Nat.strongRecOn with
    | ind n ih1 =>
      intro s1 T2 hI
      replace hw := hB1 n s1 T2 hI
      refine t_b C (pc' := 6) (L' := [(0, vA (some o)), (1, vI s1)]) (st' := [vI 320, vI s1]) [(.iload_n 1, 1), (.sipush 320, 3)] ⟨dX1_beginsChange_2, dX1_beginsChange_3, rfl⟩ rfl ?_
      refine t_icmp_ge C 60 9 dX1_beginsChange_6 rfl rfl (fun hc3 => ?_) (fun hc3 => ?_)
      · replace hw := hw.1 hc3
        exact t_vret C dX1_beginsChange_60 ⟨rfl, hw⟩
      · replace hw := hw.2 hc3
        refine t_b C (pc' := 10) (L' := [(0, vA (some o)), (1, vI s1)]) (st' := [vA (some o)]) [(.aload_n 0, 1)] ⟨dX1_beginsChange_9, rfl⟩ rfl ?_
        refine t_gA C 269 39 13 dX1_beginsChange_10 rfl rfl rfl rfl rfl q2257 (fun _ _ _ => rfl) ?_
        refine t_b C (pc' := 15) (L' := [(0, vA (some o)), (1, vI s1)]) (st' := [vI 0, vI s1, vA (some (o + 1 + 39))]) [(.iload_n 1, 1), (.iconst 0, 1)] ⟨dX1_beginsChange_13, dX1_beginsChange_14, rfl⟩ rfl ?_
        refine t_zast C 16 dX1_beginsChange_15 rfl hw.1 (fun T4 eT4 => ?_)
        replace hw := hw.2 T4 eT4
        refine t_b C (pc' := 17) (L' := [(0, vA (some o)), (1, vI s1)]) (st' := [vA (some o)]) [(.aload_n 0, 1)] ⟨dX1_beginsChange_16, rfl⟩ rfl ?_
        refine t_gA C 270 40 20 dX1_beginsChange_17 rfl rfl rfl rfl rfl q2258 (fun _ _ _ => rfl) ?_
        refine t_b C (pc' := 22) (L' := [(0, vA (some o)), (1, vI s1)]) (st' := [vI 0, vI s1, vA (some (o + 1 + 40))]) [(.iload_n 1, 1), (.iconst 0, 1)] ⟨dX1_beginsChange_20, dX1_beginsChange_21, rfl⟩ rfl ?_
        refine t_zast C 23 dX1_beginsChange_22 rfl hw.1 (fun T5 eT5 => ?_)
        replace hw := hw.2 T5 eT5
        refine t_b C (pc' := 24) (L' := [(0, vA (some o)), (1, vI s1)]) (st' := [vA (some o)]) [(.aload_n 0, 1)] ⟨dX1_beginsChange_23, rfl⟩ rfl ?_
        refine t_gA C 271 41 27 dX1_beginsChange_24 rfl rfl rfl rfl rfl q2259 (fun _ _ _ => rfl) ?_
        refine t_b C (pc' := 29) (L' := [(0, vA (some o)), (1, vI s1)]) (st' := [vI 0, vI s1, vA (some (o + 1 + 41))]) [(.iload_n 1, 1), (.iconst 0, 1)] ⟨dX1_beginsChange_27, dX1_beginsChange_28, rfl⟩ rfl ?_
        refine t_zast C 30 dX1_beginsChange_29 rfl hw.1 (fun T6 eT6 => ?_)
        replace hw := hw.2 T6 eT6
        refine t_b C (pc' := 31) (L' := [(0, vA (some o)), (1, vI s1)]) (st' := [vA (some o)]) [(.aload_n 0, 1)] ⟨dX1_beginsChange_30, rfl⟩ rfl ?_
        refine t_gA C 262 32 34 dX1_beginsChange_31 rfl rfl rfl rfl rfl q2250 (fun _ _ _ => rfl) ?_
        refine t_b C (pc' := 36) (L' := [(0, vA (some o)), (1, vI s1)]) (st' := [vA (some o), vI s1, vA (some (o + 1 + 32))]) [(.iload_n 1, 1), (.aload_n 0, 1)] ⟨dX1_beginsChange_34, dX1_beginsChange_35, rfl⟩ rfl ?_
        refine t_gA C 258 28 39 dX1_beginsChange_36 rfl rfl rfl rfl rfl q2246 (fun _ _ _ => rfl) ?_
        refine t_b C (pc' := 40) (L' := [(0, vA (some o)), (1, vI s1)]) (st' := [vI s1, vA (some (o + 1 + 28)), vI s1, vA (some (o + 1 + 32))]) [(.iload_n 1, 1)] ⟨dX1_beginsChange_39, rfl⟩ rfl ?_
        refine t_iald C 41 dX1_beginsChange_40 rfl hw.1 ?_
        replace hw := hw.2
        refine t_iast C 42 dX1_beginsChange_41 rfl hw.1 (fun T7 eT7 => ?_)
        replace hw := hw.2 T7 eT7
        refine t_b C (pc' := 43) (L' := [(0, vA (some o)), (1, vI s1)]) (st' := [vA (some o)]) [(.aload_n 0, 1)] ⟨dX1_beginsChange_42, rfl⟩ rfl ?_
        refine t_gA C 263 33 46 dX1_beginsChange_43 rfl rfl rfl rfl rfl q2251 (fun _ _ _ => rfl) ?_
        refine t_b C (pc' := 48) (L' := [(0, vA (some o)), (1, vI s1)]) (st' := [vA (some o), vI s1, vA (some (o + 1 + 33))]) [(.iload_n 1, 1), (.aload_n 0, 1)] ⟨dX1_beginsChange_46, dX1_beginsChange_47, rfl⟩ rfl ?_
        refine t_gA C 259 29 51 dX1_beginsChange_48 rfl rfl rfl rfl rfl q2247 (fun _ _ _ => rfl) ?_
        refine t_b C (pc' := 52) (L' := [(0, vA (some o)), (1, vI s1)]) (st' := [vI s1, vA (some (o + 1 + 29)), vI s1, vA (some (o + 1 + 33))]) [(.iload_n 1, 1)] ⟨dX1_beginsChange_51, rfl⟩ rfl ?_
        refine t_iald C 53 dX1_beginsChange_52 rfl hw.1 ?_
        replace hw := hw.2
        refine t_iast C 54 dX1_beginsChange_53 rfl hw.1 (fun T8 eT8 => ?_)
        replace hw := hw.2 T8 eT8
        refine t_b C (pc' := 57) (L' := [(1, vI (s1 + 1)), (0, vA (some o))]) (st' := []) [(.iinc 1 1, 3)] ⟨dX1_beginsChange_54, rfl⟩ rfl ?_
        refine t_goto C 2 dX1_beginsChange_57 rfl ?_
        refine t_sub C (L' := [(0, vA (some o)), (1, vI (s1 + 1))]) [1, 0] rfl ?_
        obtain ⟨m9, hm9, hw⟩ := hw
        exact ih1 m9 hm9 (s1 + 1) T8 hw
  exact key1 n1 0 T hI1
def wp_X1_bit (p0 : Nat) (p1 : Int32) (p2 : Int32) (T : TS) (Q : Int32 → TS → Prop) : Prop :=
  tix p0 40 ((10 * p1) + (p2 / 32)) ∧
  ∀ m1 : Int32, m1 = (if ((jushr (T.a p0 (ni ((10 * p1) + (p2 / 32)))) (jrem p2 32)) &&& 1) = 1 then 1 else 0) →
  bz m1 ∧ Q m1 T
theorem hd_X1_bit : yX1_bit.cls ≠ "java/lang/invoke/MethodHandle" ∧ yX1_bit.cls ≠ "java/lang/invoke/VarHandle" ∧ (parseMethodDescriptor yX1_bit.desc).map (fun d => d.parameters.length) = some 3 := by decide +kernel
theorem ok_X1_bit {l : Launch} {D : va_G} {s0 : S0} (hG : G0 D s0) {o : Nat} {p0 : Nat} {p1 : Int32} {p2 : Int32} {T : TS} {Q : Int32 → TS → Prop} (hw : wp_X1_bit p0 p1 p2 T Q) : OKt l D s0 o yX1_bit cX1_bit 3 (some .boolean) 0 0 [vA (some (o + 1 + p0)), vI p1, vI p2] T (TI Q) := by
  refine t_met hG rfl rfl (L0 := [(0, vA (some (o + 1 + p0))), (1, vI p1), (2, vI p2)]) rfl rfl ?_
  intro h K C
  unfold wp_X1_bit at hw
  refine t_b C (pc' := 10) (L' := [(0, vA (some (o + 1 + p0))), (1, vI p1), (2, vI p2)]) (st' := [vI ((10 * p1) + (p2 / 32)), vA (some (o + 1 + p0))]) [(.aload_n 0, 1), (.bipush 10, 2), (.iload_n 1, 1), (.imul, 1), (.iload_n 2, 1), (.bipush 32, 2), (.idiv, 1), (.iadd, 1)] ⟨dX1_bit_0, dX1_bit_1, dX1_bit_3, dX1_bit_4, dX1_bit_5, dX1_bit_6, dX1_bit_8, dX1_bit_9, rfl⟩ rfl ?_
  refine t_iald C 11 dX1_bit_10 rfl hw.1 ?_
  replace hw := hw.2
  refine t_b C (pc' := 19) (L' := [(0, vA (some (o + 1 + p0))), (1, vI p1), (2, vI p2)]) (st' := [vI 1, vI ((jushr (T.a p0 (ni ((10 * p1) + (p2 / 32)))) (jrem p2 32)) &&& 1)]) [(.iload_n 2, 1), (.bipush 32, 2), (.irem, 1), (.iushr, 1), (.iconst 1, 1), (.iand, 1), (.iconst 1, 1)] ⟨dX1_bit_11, dX1_bit_12, dX1_bit_14, dX1_bit_15, dX1_bit_16, dX1_bit_17, dX1_bit_18, rfl⟩ rfl ?_
  have kj2 : ∀ (m1 : Int32), m1 = (if ((jushr (T.a p0 (ni ((10 * p1) + (p2 / 32)))) (jrem p2 32)) &&& 1) = 1 then 1 else 0) → K 27 [] [vI m1] T := by
    intro m1 em1
    replace hw := hw m1 em1
    exact t_zret C dX1_bit_27 (bz_n hw.1) ⟨_, rfl, hw.2⟩
  refine t_icmp_ne C 26 22 dX1_bit_19 rfl rfl (fun hc3 => ?_) (fun hc3 => ?_)
  · refine t_b C (pc' := 27) (L' := [(0, vA (some (o + 1 + p0))), (1, vI p1), (2, vI p2)]) (st' := [vI 0]) [(.iconst 0, 1)] ⟨dX1_bit_26, rfl⟩ rfl ?_
    refine t_sub C (L' := []) [] rfl ?_
    exact kj2 _ ((if_neg hc3).symm)
  · refine t_b C (pc' := 23) (L' := [(0, vA (some (o + 1 + p0))), (1, vI p1), (2, vI p2)]) (st' := [vI 1]) [(.iconst 1, 1)] ⟨dX1_bit_22, rfl⟩ rfl ?_
    refine t_goto C 27 dX1_bit_23 rfl ?_
    refine t_sub C (L' := []) [] rfl ?_
    exact kj2 _ ((if_pos hc3).symm)
def wp_X1_firstSelf  (T : TS) (Q : Int32 → TS → Prop) : Prop :=
  tlp (σ := Int32) (fun s1 T2 k1 =>
  ((32 ≤ s1 →
  Q (-1) T2) ∧ (¬ 32 ≤ s1 →
  tix 6 40 s1 ∧
  wp_X1_has (T2.a 6 (ni s1)) s1 T2 fun r5 T4 =>
  ((r5 = 0 →
  k1 (s1 + 1) T4) ∧ (¬ r5 = 0 →
  Q s1 T4))))) 0 T
theorem hd_X1_firstSelf : yX1_firstSelf.cls = RX1 ∧ yX1_firstSelf.cls ≠ "java/lang/invoke/MethodHandle" ∧ yX1_firstSelf.cls ≠ "java/lang/invoke/VarHandle" ∧ (parseMethodDescriptor yX1_firstSelf.desc).map (fun d => d.parameters.length) = some 0 := by decide +kernel
theorem ok_X1_firstSelf {l : Launch} {D : va_G} {s0 : S0} (hG : G0 D s0) {o : Nat}  {T : TS} {Q : Int32 → TS → Prop} (hw : wp_X1_firstSelf  T Q) : OKt l D s0 o yX1_firstSelf cX1_firstSelf 2 (some .int) 1 21 [vA (some o)] T (TI Q) := by
  refine t_met hG rfl rfl (L0 := [(0, vA (some o))]) rfl rfl ?_
  intro h K C
  unfold wp_X1_firstSelf at hw
  refine t_b C (pc' := 2) (L' := [(1, vI 0), (0, vA (some o))]) (st' := []) [(.iconst 0, 1), (.istore_n 1, 1)] ⟨dX1_firstSelf_0, dX1_firstSelf_1, rfl⟩ rfl ?_
  obtain ⟨I1, ⟨n1, hI1⟩, hB1⟩ := tlp.out hw
  refine t_sub C (L' := [(0, vA (some o)), (1, vI 0)]) [1, 0] rfl ?_
  have key1 : ∀ (n : Nat) (s1 : Int32) (T2 : TS), I1 n s1 T2 → K 2 [(0, vA (some o)), (1, vI s1)] [] T2 := by
    intro n
    induction n using Nat.strongRecOn with
    | ind n ih1 =>
      intro s1 T2 hI
      replace hw := hB1 n s1 T2 hI
      refine t_b C (pc' := 5) (L' := [(0, vA (some o)), (1, vI s1)]) (st' := [vI 32, vI s1]) [(.iload_n 1, 1), (.bipush 32, 2)] ⟨dX1_firstSelf_2, dX1_firstSelf_3, rfl⟩ rfl ?_
      refine t_icmp_ge C 29 8 dX1_firstSelf_5 rfl rfl (fun hc3 => ?_) (fun hc3 => ?_)
      · replace hw := hw.1 hc3
        refine t_b C (pc' := 30) (L' := [(0, vA (some o)), (1, vI s1)]) (st' := [vI (-1)]) [(.iconst (-1), 1)] ⟨dX1_firstSelf_29, rfl⟩ rfl ?_
        exact t_iret C dX1_firstSelf_30 ⟨_, rfl, hw⟩
      · replace hw := hw.2 hc3
        refine t_b C (pc' := 9) (L' := [(0, vA (some o)), (1, vI s1)]) (st' := [vA (some o)]) [(.aload_n 0, 1)] ⟨dX1_firstSelf_8, rfl⟩ rfl ?_
        refine t_gA C 223 6 12 dX1_firstSelf_9 rfl rfl rfl rfl rfl q2211 (fun _ _ _ => rfl) ?_
        refine t_b C (pc' := 13) (L' := [(0, vA (some o)), (1, vI s1)]) (st' := [vI s1, vA (some (o + 1 + 6))]) [(.iload_n 1, 1)] ⟨dX1_firstSelf_12, rfl⟩ rfl ?_
        refine t_iald C 14 dX1_firstSelf_13 rfl hw.1 ?_
        replace hw := hw.2
        refine t_b C (pc' := 15) (L' := [(0, vA (some o)), (1, vI s1)]) (st' := [vI s1, vI (T2.a 6 (ni s1))]) [(.iload_n 1, 1)] ⟨dX1_firstSelf_14, rfl⟩ rfl ?_
        refine t_callSI C 18 [vI (T2.a 6 (ni s1)), vI s1] [] dX1_firstSelf_15 rfl (ok_X1_has hG hw) q2586 q2587 q159 q2588 hd_X1_has ⟨rfl, rfl, rfl⟩ (fun r5 T4 hw => ?_)
        refine t_if_eq C 23 21 dX1_firstSelf_18 rfl rfl (fun hc6 => ?_) (fun hc6 => ?_)
        · replace hw := hw.1 hc6
          refine t_b C (pc' := 26) (L' := [(1, vI (s1 + 1)), (0, vA (some o))]) (st' := []) [(.iinc 1 1, 3)] ⟨dX1_firstSelf_23, rfl⟩ rfl ?_
          refine t_goto C 2 dX1_firstSelf_26 rfl ?_
          refine t_sub C (L' := [(0, vA (some o)), (1, vI (s1 + 1))]) [1, 0] rfl ?_
          obtain ⟨m9, hm9, hw⟩ := hw
          exact ih1 m9 hm9 (s1 + 1) T4 hw
        · replace hw := hw.2 hc6
          refine t_b C (pc' := 22) (L' := [(0, vA (some o)), (1, vI s1)]) (st' := [vI s1]) [(.iload_n 1, 1)] ⟨dX1_firstSelf_21, rfl⟩ rfl ?_
          exact t_iret C dX1_firstSelf_22 ⟨_, rfl, hw⟩
  exact key1 n1 0 T hI1
def wp_X1_closes  (T : TS) (Q : TS → Prop) : Prop :=
  tlp (σ := Int32) (fun s1 T2 k1 =>
  ((32 ≤ s1 →
  Q T2) ∧ (¬ 32 ≤ s1 →
  tlp (σ := Int32) (fun s4 T5 k4 =>
  ((32 ≤ s4 →
  k1 (s1 + 1) T5) ∧ (¬ 32 ≤ s4 →
  tix 6 40 s4 ∧
  wp_X1_has (T5.a 6 (ni s4)) s1 T5 fun r8 T7 =>
  ((r8 = 0 →
  k4 (s4 + 1) T7) ∧ (¬ r8 = 0 →
  tix 6 40 s4 ∧
  tix 6 40 s1 ∧
  tix 6 40 s4 ∧
  ∀ T10, T10 = T7.sa 6 (ni s4) ((T7.a 6 (ni s4)) ||| (T7.a 6 (ni s1))) →
  k4 (s4 + 1) T10))))) 0 T2))) 0 T
theorem hd_X1_closes : yX1_closes.cls = RX1 ∧ yX1_closes.cls ≠ "java/lang/invoke/MethodHandle" ∧ yX1_closes.cls ≠ "java/lang/invoke/VarHandle" ∧ (parseMethodDescriptor yX1_closes.desc).map (fun d => d.parameters.length) = some 0 := by decide +kernel
theorem ok_X1_closes {l : Launch} {D : va_G} {s0 : S0} (hG : G0 D s0) {o : Nat}  {T : TS} {Q : TS → Prop} (hw : wp_X1_closes  T Q) : OKt l D s0 o yX1_closes cX1_closes 3 none 1 21 [vA (some o)] T (TV Q) := by
  refine t_met hG rfl rfl (L0 := [(0, vA (some o))]) rfl rfl ?_
  intro h K C
  unfold wp_X1_closes at hw
  refine t_b C (pc' := 2) (L' := [(1, vI 0), (0, vA (some o))]) (st' := []) [(.iconst 0, 1), (.istore_n 1, 1)] ⟨dX1_closes_0, dX1_closes_1, rfl⟩ rfl ?_
  obtain ⟨I1, ⟨n1, hI1⟩, hB1⟩ := tlp.out hw
  refine t_sub C (L' := [(0, vA (some o)), (1, vI 0)]) [1, 0] rfl ?_
  have key1 : ∀ (n : Nat) (s1 : Int32) (T2 : TS), I1 n s1 T2 → K 2 [(0, vA (some o)), (1, vI s1)] [] T2 := by
    intro n
    induction n using Nat.strongRecOn with
    | ind n ih1 =>
      intro s1 T2 hI
      replace hw := hB1 n s1 T2 hI
      refine t_b C (pc' := 5) (L' := [(0, vA (some o)), (1, vI s1)]) (st' := [vI 32, vI s1]) [(.iload_n 1, 1), (.bipush 32, 2)] ⟨dX1_closes_2, dX1_closes_3, rfl⟩ rfl ?_
      refine t_icmp_ge C 56 8 dX1_closes_5 rfl rfl (fun hc3 => ?_) (fun hc3 => ?_)
      · replace hw := hw.1 hc3
        exact t_vret C dX1_closes_56 ⟨rfl, hw⟩
      · replace hw := hw.2 hc3
        refine t_b C (pc' := 10) (L' := [(2, vI 0), (0, vA (some o)), (1, vI s1)]) (st' := []) [(.iconst 0, 1), (.istore_n 2, 1)] ⟨dX1_closes_8, dX1_closes_9, rfl⟩ rfl ?_
        obtain ⟨I4, ⟨n4, hI4⟩, hB4⟩ := tlp.out hw
        refine t_sub C (L' := [(0, vA (some o)), (1, vI s1), (2, vI 0)]) [1, 2, 0] rfl ?_
        have key4 : ∀ (n : Nat) (s4 : Int32) (T5 : TS), I4 n s4 T5 → K 10 [(0, vA (some o)), (1, vI s1), (2, vI s4)] [] T5 := by
          intro n
          induction n using Nat.strongRecOn with
          | ind n ih4 =>
            intro s4 T5 hI
            replace hw := hB4 n s4 T5 hI
            refine t_b C (pc' := 13) (L' := [(0, vA (some o)), (1, vI s1), (2, vI s4)]) (st' := [vI 32, vI s4]) [(.iload_n 2, 1), (.bipush 32, 2)] ⟨dX1_closes_10, dX1_closes_11, rfl⟩ rfl ?_
            refine t_icmp_ge C 50 16 dX1_closes_13 rfl rfl (fun hc6 => ?_) (fun hc6 => ?_)
            · replace hw := hw.1 hc6
              refine t_b C (pc' := 53) (L' := [(1, vI (s1 + 1)), (0, vA (some o)), (2, vI s4)]) (st' := []) [(.iinc 1 1, 3)] ⟨dX1_closes_50, rfl⟩ rfl ?_
              refine t_goto C 2 dX1_closes_53 rfl ?_
              refine t_sub C (L' := [(0, vA (some o)), (1, vI (s1 + 1))]) [1, 0] rfl ?_
              obtain ⟨m9, hm9, hw⟩ := hw
              exact ih1 m9 hm9 (s1 + 1) T5 hw
            · replace hw := hw.2 hc6
              refine t_b C (pc' := 17) (L' := [(0, vA (some o)), (1, vI s1), (2, vI s4)]) (st' := [vA (some o)]) [(.aload_n 0, 1)] ⟨dX1_closes_16, rfl⟩ rfl ?_
              refine t_gA C 223 6 20 dX1_closes_17 rfl rfl rfl rfl rfl q2211 (fun _ _ _ => rfl) ?_
              refine t_b C (pc' := 21) (L' := [(0, vA (some o)), (1, vI s1), (2, vI s4)]) (st' := [vI s4, vA (some (o + 1 + 6))]) [(.iload_n 2, 1)] ⟨dX1_closes_20, rfl⟩ rfl ?_
              refine t_iald C 22 dX1_closes_21 rfl hw.1 ?_
              replace hw := hw.2
              refine t_b C (pc' := 23) (L' := [(0, vA (some o)), (1, vI s1), (2, vI s4)]) (st' := [vI s1, vI (T5.a 6 (ni s4))]) [(.iload_n 1, 1)] ⟨dX1_closes_22, rfl⟩ rfl ?_
              refine t_callSI C 26 [vI (T5.a 6 (ni s4)), vI s1] [] dX1_closes_23 rfl (ok_X1_has hG hw) q2586 q2587 q159 q2588 hd_X1_has ⟨rfl, rfl, rfl⟩ (fun r8 T7 hw => ?_)
              refine t_if_eq C 44 29 dX1_closes_26 rfl rfl (fun hc9 => ?_) (fun hc9 => ?_)
              · replace hw := hw.1 hc9
                refine t_b C (pc' := 47) (L' := [(2, vI (s4 + 1)), (0, vA (some o)), (1, vI s1)]) (st' := []) [(.iinc 2 1, 3)] ⟨dX1_closes_44, rfl⟩ rfl ?_
                refine t_goto C 10 dX1_closes_47 rfl ?_
                refine t_sub C (L' := [(0, vA (some o)), (1, vI s1), (2, vI (s4 + 1))]) [1, 2, 0] rfl ?_
                obtain ⟨m9, hm9, hw⟩ := hw
                exact ih4 m9 hm9 (s4 + 1) T7 hw
              · replace hw := hw.2 hc9
                refine t_b C (pc' := 30) (L' := [(0, vA (some o)), (1, vI s1), (2, vI s4)]) (st' := [vA (some o)]) [(.aload_n 0, 1)] ⟨dX1_closes_29, rfl⟩ rfl ?_
                refine t_gA C 223 6 33 dX1_closes_30 rfl rfl rfl rfl rfl q2211 (fun _ _ _ => rfl) ?_
                refine t_b C (pc' := 35) (L' := [(0, vA (some o)), (1, vI s1), (2, vI s4)]) (st' := [vI s4, vA (some (o + 1 + 6)), vI s4, vA (some (o + 1 + 6))]) [(.iload_n 2, 1), (.dup2, 1)] ⟨dX1_closes_33, dX1_closes_34, rfl⟩ rfl ?_
                refine t_iald C 36 dX1_closes_35 rfl hw.1 ?_
                replace hw := hw.2
                refine t_b C (pc' := 37) (L' := [(0, vA (some o)), (1, vI s1), (2, vI s4)]) (st' := [vA (some o), vI (T7.a 6 (ni s4)), vI s4, vA (some (o + 1 + 6))]) [(.aload_n 0, 1)] ⟨dX1_closes_36, rfl⟩ rfl ?_
                refine t_gA C 223 6 40 dX1_closes_37 rfl rfl rfl rfl rfl q2211 (fun _ _ _ => rfl) ?_
                refine t_b C (pc' := 41) (L' := [(0, vA (some o)), (1, vI s1), (2, vI s4)]) (st' := [vI s1, vA (some (o + 1 + 6)), vI (T7.a 6 (ni s4)), vI s4, vA (some (o + 1 + 6))]) [(.iload_n 1, 1)] ⟨dX1_closes_40, rfl⟩ rfl ?_
                refine t_iald C 42 dX1_closes_41 rfl hw.1 ?_
                replace hw := hw.2
                refine t_b C (pc' := 43) (L' := [(0, vA (some o)), (1, vI s1), (2, vI s4)]) (st' := [vI ((T7.a 6 (ni s4)) ||| (T7.a 6 (ni s1))), vI s4, vA (some (o + 1 + 6))]) [(.ior, 1)] ⟨dX1_closes_42, rfl⟩ rfl ?_
                refine t_iast C 44 dX1_closes_43 rfl hw.1 (fun T10 eT10 => ?_)
                replace hw := hw.2 T10 eT10
                refine t_b C (pc' := 47) (L' := [(2, vI (s4 + 1)), (0, vA (some o)), (1, vI s1)]) (st' := []) [(.iinc 2 1, 3)] ⟨dX1_closes_44, rfl⟩ rfl ?_
                refine t_goto C 10 dX1_closes_47 rfl ?_
                refine t_sub C (L' := [(0, vA (some o)), (1, vI s1), (2, vI (s4 + 1))]) [1, 2, 0] rfl ?_
                obtain ⟨m9, hm9, hw⟩ := hw
                exact ih4 m9 hm9 (s4 + 1) T10 hw
        exact key4 n4 0 T2 hI4
  exact key1 n1 0 T hI1
def wp_X1_laysRules (p0 : Int32) (T : TS) (Q : TS → Prop) : Prop :=
  tlp (σ := Int32) (fun s1 T2 k1 =>
  ((32 ≤ s1 →
  Q T2) ∧ (¬ 32 ≤ s1 →
  wp_X1_asks p0 s1 T2 fun r5 T4 =>
  tix 6 40 s1 ∧
  ∀ T6, T6 = T4.sa 6 (ni s1) r5 →
  k1 (s1 + 1) T6))) 0 T
theorem hd_X1_laysRules : yX1_laysRules.cls = RX1 ∧ yX1_laysRules.cls ≠ "java/lang/invoke/MethodHandle" ∧ yX1_laysRules.cls ≠ "java/lang/invoke/VarHandle" ∧ (parseMethodDescriptor yX1_laysRules.desc).map (fun d => d.parameters.length) = some 1 := by decide +kernel
theorem ok_X1_laysRules {l : Launch} {D : va_G} {s0 : S0} (hG : G0 D s0) {o : Nat} {p0 : Int32} {T : TS} {Q : TS → Prop} (hw : wp_X1_laysRules p0 T Q) : OKt l D s0 o yX1_laysRules cX1_laysRules 3 none 1 22 [vA (some o), vI p0] T (TV Q) := by
  refine t_met hG rfl rfl (L0 := [(0, vA (some o)), (1, vI p0)]) rfl rfl ?_
  intro h K C
  unfold wp_X1_laysRules at hw
  refine t_b C (pc' := 2) (L' := [(2, vI 0), (0, vA (some o)), (1, vI p0)]) (st' := []) [(.iconst 0, 1), (.istore_n 2, 1)] ⟨dX1_laysRules_0, dX1_laysRules_1, rfl⟩ rfl ?_
  obtain ⟨I1, ⟨n1, hI1⟩, hB1⟩ := tlp.out hw
  refine t_sub C (L' := [(0, vA (some o)), (1, vI p0), (2, vI 0)]) [1, 2, 0] rfl ?_
  have key1 : ∀ (n : Nat) (s1 : Int32) (T2 : TS), I1 n s1 T2 → K 2 [(0, vA (some o)), (1, vI p0), (2, vI s1)] [] T2 := by
    intro n
    induction n using Nat.strongRecOn with
    | ind n ih1 =>
      intro s1 T2 hI
      replace hw := hB1 n s1 T2 hI
      refine t_b C (pc' := 5) (L' := [(0, vA (some o)), (1, vI p0), (2, vI s1)]) (st' := [vI 32, vI s1]) [(.iload_n 2, 1), (.bipush 32, 2)] ⟨dX1_laysRules_2, dX1_laysRules_3, rfl⟩ rfl ?_
      refine t_icmp_ge C 26 8 dX1_laysRules_5 rfl rfl (fun hc3 => ?_) (fun hc3 => ?_)
      · replace hw := hw.1 hc3
        exact t_vret C dX1_laysRules_26 ⟨rfl, hw⟩
      · replace hw := hw.2 hc3
        refine t_b C (pc' := 9) (L' := [(0, vA (some o)), (1, vI p0), (2, vI s1)]) (st' := [vA (some o)]) [(.aload_n 0, 1)] ⟨dX1_laysRules_8, rfl⟩ rfl ?_
        refine t_gA C 223 6 12 dX1_laysRules_9 rfl rfl rfl rfl rfl q2211 (fun _ _ _ => rfl) ?_
        refine t_b C (pc' := 16) (L' := [(0, vA (some o)), (1, vI p0), (2, vI s1)]) (st' := [vI s1, vI p0, vA (some o), vI s1, vA (some (o + 1 + 6))]) [(.iload_n 2, 1), (.aload_n 0, 1), (.iload_n 1, 1), (.iload_n 2, 1)] ⟨dX1_laysRules_12, dX1_laysRules_13, dX1_laysRules_14, dX1_laysRules_15, rfl⟩ rfl ?_
        refine t_callVI C 19 [vI p0, vI s1] [vI s1, vA (some (o + 1 + 6))] dX1_laysRules_16 rfl (ok_X1_asks hG hw) q2570 q2572 qs96 q159 q2573 hd_X1_asks ⟨rfl, rfl, rfl⟩ (fun r5 T4 hw => ?_)
        refine t_iast C 20 dX1_laysRules_19 rfl hw.1 (fun T6 eT6 => ?_)
        replace hw := hw.2 T6 eT6
        refine t_b C (pc' := 23) (L' := [(2, vI (s1 + 1)), (0, vA (some o)), (1, vI p0)]) (st' := []) [(.iinc 2 1, 3)] ⟨dX1_laysRules_20, rfl⟩ rfl ?_
        refine t_goto C 2 dX1_laysRules_23 rfl ?_
        refine t_sub C (L' := [(0, vA (some o)), (1, vI p0), (2, vI (s1 + 1))]) [1, 2, 0] rfl ?_
        obtain ⟨m9, hm9, hw⟩ := hw
        exact ih1 m9 hm9 (s1 + 1) T6 hw
  exact key1 n1 0 T hI1
def wp_X1_laysClosed (p0 : Int32) (T : TS) (Q : TS → Prop) : Prop :=
  wp_X1_laysRules p0 T fun T1 =>
  wp_X1_addsInduced p0 T1 fun T3 =>
  wp_X1_closes  T3 fun T5 =>
  Q T5
theorem hd_X1_laysClosed : yX1_laysClosed.cls = RX1 ∧ yX1_laysClosed.cls ≠ "java/lang/invoke/MethodHandle" ∧ yX1_laysClosed.cls ≠ "java/lang/invoke/VarHandle" ∧ (parseMethodDescriptor yX1_laysClosed.desc).map (fun d => d.parameters.length) = some 1 := by decide +kernel
theorem ok_X1_laysClosed {l : Launch} {D : va_G} {s0 : S0} (hG : G0 D s0) {o : Nat} {p0 : Int32} {T : TS} {Q : TS → Prop} (hw : wp_X1_laysClosed p0 T Q) : OKt l D s0 o yX1_laysClosed cX1_laysClosed 2 none 3 66 [vA (some o), vI p0] T (TV Q) := by
  refine t_met hG rfl rfl (L0 := [(0, vA (some o)), (1, vI p0)]) rfl rfl ?_
  intro h K C
  unfold wp_X1_laysClosed at hw
  refine t_b C (pc' := 2) (L' := [(0, vA (some o)), (1, vI p0)]) (st' := [vI p0, vA (some o)]) [(.aload_n 0, 1), (.iload_n 1, 1)] ⟨dX1_laysClosed_0, dX1_laysClosed_1, rfl⟩ rfl ?_
  refine t_callVV C 5 [vI p0] [] dX1_laysClosed_2 rfl (ok_X1_laysRules hG hw) q2566 q2568 qs95 q159 q2569 hd_X1_laysRules ⟨rfl, rfl, rfl⟩ (fun T1 hw => ?_)
  refine t_b C (pc' := 7) (L' := [(0, vA (some o)), (1, vI p0)]) (st' := [vI p0, vA (some o)]) [(.aload_n 0, 1), (.iload_n 1, 1)] ⟨dX1_laysClosed_5, dX1_laysClosed_6, rfl⟩ rfl ?_
  refine t_callVV C 10 [vI p0] [] dX1_laysClosed_7 rfl (ok_X1_addsInduced hG hw) q2574 q2576 qs97 q159 q2577 hd_X1_addsInduced ⟨rfl, rfl, rfl⟩ (fun T3 hw => ?_)
  refine t_b C (pc' := 11) (L' := [(0, vA (some o)), (1, vI p0)]) (st' := [vA (some o)]) [(.aload_n 0, 1)] ⟨dX1_laysClosed_10, rfl⟩ rfl ?_
  refine t_callVV C 14 [] [] dX1_laysClosed_11 rfl (ok_X1_closes hG hw) q2582 q2584 qs99 q159 q2585 hd_X1_closes ⟨rfl, rfl, rfl⟩ (fun T5 hw => ?_)
  exact t_vret C dX1_laysClosed_14 ⟨rfl, hw⟩
def wp_X1_laysOrdered (p0 : Int32) (T : TS) (Q : TS → Prop) : Prop :=
  wp_X1_laysRules p0 T fun T1 =>
  wp_X1_addsInduced p0 T1 fun T3 =>
  wp_X1_addsVisits p0 T3 fun T5 =>
  wp_X1_closes  T5 fun T7 =>
  Q T7
theorem hd_X1_laysOrdered : yX1_laysOrdered.cls = RX1 ∧ yX1_laysOrdered.cls ≠ "java/lang/invoke/MethodHandle" ∧ yX1_laysOrdered.cls ≠ "java/lang/invoke/VarHandle" ∧ (parseMethodDescriptor yX1_laysOrdered.desc).map (fun d => d.parameters.length) = some 1 := by decide +kernel
theorem ok_X1_laysOrdered {l : Launch} {D : va_G} {s0 : S0} (hG : G0 D s0) {o : Nat} {p0 : Int32} {T : TS} {Q : TS → Prop} (hw : wp_X1_laysOrdered p0 T Q) : OKt l D s0 o yX1_laysOrdered cX1_laysOrdered 2 none 7 160 [vA (some o), vI p0] T (TV Q) := by
  refine t_met hG rfl rfl (L0 := [(0, vA (some o)), (1, vI p0)]) rfl rfl ?_
  intro h K C
  unfold wp_X1_laysOrdered at hw
  refine t_b C (pc' := 2) (L' := [(0, vA (some o)), (1, vI p0)]) (st' := [vI p0, vA (some o)]) [(.aload_n 0, 1), (.iload_n 1, 1)] ⟨dX1_laysOrdered_0, dX1_laysOrdered_1, rfl⟩ rfl ?_
  refine t_callVV C 5 [vI p0] [] dX1_laysOrdered_2 rfl (ok_X1_laysRules hG hw) q2566 q2568 qs95 q159 q2569 hd_X1_laysRules ⟨rfl, rfl, rfl⟩ (fun T1 hw => ?_)
  refine t_b C (pc' := 7) (L' := [(0, vA (some o)), (1, vI p0)]) (st' := [vI p0, vA (some o)]) [(.aload_n 0, 1), (.iload_n 1, 1)] ⟨dX1_laysOrdered_5, dX1_laysOrdered_6, rfl⟩ rfl ?_
  refine t_callVV C 10 [vI p0] [] dX1_laysOrdered_7 rfl (ok_X1_addsInduced hG hw) q2574 q2576 qs97 q159 q2577 hd_X1_addsInduced ⟨rfl, rfl, rfl⟩ (fun T3 hw => ?_)
  refine t_b C (pc' := 12) (L' := [(0, vA (some o)), (1, vI p0)]) (st' := [vI p0, vA (some o)]) [(.aload_n 0, 1), (.iload_n 1, 1)] ⟨dX1_laysOrdered_10, dX1_laysOrdered_11, rfl⟩ rfl ?_
  refine t_callVV C 15 [vI p0] [] dX1_laysOrdered_12 rfl (ok_X1_addsVisits hG hw) q2653 q2655 qs111 q159 q2656 hd_X1_addsVisits ⟨rfl, rfl, rfl⟩ (fun T5 hw => ?_)
  refine t_b C (pc' := 16) (L' := [(0, vA (some o)), (1, vI p0)]) (st' := [vA (some o)]) [(.aload_n 0, 1)] ⟨dX1_laysOrdered_15, rfl⟩ rfl ?_
  refine t_callVV C 19 [] [] dX1_laysOrdered_16 rfl (ok_X1_closes hG hw) q2582 q2584 qs99 q159 q2585 hd_X1_closes ⟨rfl, rfl, rfl⟩ (fun T7 hw => ?_)
  exact t_vret C dX1_laysOrdered_19 ⟨rfl, hw⟩
def wp_X1_block  (T : TS) (Q : Int32 → TS → Prop) : Prop :=
  tlp (σ := Int32) (fun s1 T2 k1 =>
  tix 1 40 1 ∧
  (((T2.a 1 (ni 1)) ≤ s1 →
  Q (-1) T2) ∧ (¬ (T2.a 1 (ni 1)) ≤ s1 →
  wp_X1_laysClosed s1 T2 fun T4 =>
  wp_X1_firstSelf  T4 fun r7 T6 =>
  ((r7 = (-1) →
  wp_X1_laysOrdered s1 T6 fun T9 =>
  wp_X1_firstSelf  T9 fun r12 T11 =>
  ((r12 = (-1) →
  k1 (s1 + 1) T11) ∧ (¬ r12 = (-1) →
  Q s1 T11))) ∧ (¬ r7 = (-1) →
  Q s1 T6))))) 0 T
theorem hd_X1_block : yX1_block.cls = RX1 ∧ yX1_block.cls ≠ "java/lang/invoke/MethodHandle" ∧ yX1_block.cls ≠ "java/lang/invoke/VarHandle" ∧ (parseMethodDescriptor yX1_block.desc).map (fun d => d.parameters.length) = some 0 := by decide +kernel
theorem ok_X1_block {l : Launch} {D : va_G} {s0 : S0} (hG : G0 D s0) {o : Nat}  {T : TS} {Q : Int32 → TS → Prop} (hw : wp_X1_block  T Q) : OKt l D s0 o yX1_block cX1_block 2 (some .int) 8 181 [vA (some o)] T (TI Q) := by
  refine t_met hG rfl rfl (L0 := [(0, vA (some o))]) rfl rfl ?_
  intro h K C
  unfold wp_X1_block at hw
  refine t_b C (pc' := 2) (L' := [(1, vI 0), (0, vA (some o))]) (st' := []) [(.iconst 0, 1), (.istore_n 1, 1)] ⟨dX1_block_0, dX1_block_1, rfl⟩ rfl ?_
  obtain ⟨I1, ⟨n1, hI1⟩, hB1⟩ := tlp.out hw
  refine t_sub C (L' := [(0, vA (some o)), (1, vI 0)]) [1, 0] rfl ?_
  have key1 : ∀ (n : Nat) (s1 : Int32) (T2 : TS), I1 n s1 T2 → K 2 [(0, vA (some o)), (1, vI s1)] [] T2 := by
    intro n
    induction n using Nat.strongRecOn with
    | ind n ih1 =>
      intro s1 T2 hI
      replace hw := hB1 n s1 T2 hI
      refine t_b C (pc' := 4) (L' := [(0, vA (some o)), (1, vI s1)]) (st' := [vA (some o), vI s1]) [(.iload_n 1, 1), (.aload_n 0, 1)] ⟨dX1_block_2, dX1_block_3, rfl⟩ rfl ?_
      refine t_gA C 201 1 7 dX1_block_4 rfl rfl rfl rfl rfl q2189 (fun _ _ _ => rfl) ?_
      refine t_b C (pc' := 8) (L' := [(0, vA (some o)), (1, vI s1)]) (st' := [vI 1, vA (some (o + 1 + 1)), vI s1]) [(.iconst 1, 1)] ⟨dX1_block_7, rfl⟩ rfl ?_
      refine t_iald C 9 dX1_block_8 rfl hw.1 ?_
      replace hw := hw.2
      refine t_icmp_ge C 48 12 dX1_block_9 rfl rfl (fun hc3 => ?_) (fun hc3 => ?_)
      · replace hw := hw.1 hc3
        refine t_b C (pc' := 49) (L' := [(0, vA (some o)), (1, vI s1)]) (st' := [vI (-1)]) [(.iconst (-1), 1)] ⟨dX1_block_48, rfl⟩ rfl ?_
        exact t_iret C dX1_block_49 ⟨_, rfl, hw⟩
      · replace hw := hw.2 hc3
        refine t_b C (pc' := 14) (L' := [(0, vA (some o)), (1, vI s1)]) (st' := [vI s1, vA (some o)]) [(.aload_n 0, 1), (.iload_n 1, 1)] ⟨dX1_block_12, dX1_block_13, rfl⟩ rfl ?_
        refine t_callVV C 17 [vI s1] [] dX1_block_14 rfl (ok_X1_laysClosed hG hw) q2562 q2564 qs94 q159 q2565 hd_X1_laysClosed ⟨rfl, rfl, rfl⟩ (fun T4 hw => ?_)
        refine t_b C (pc' := 18) (L' := [(0, vA (some o)), (1, vI s1)]) (st' := [vA (some o)]) [(.aload_n 0, 1)] ⟨dX1_block_17, rfl⟩ rfl ?_
        refine t_callVI C 21 [] [] dX1_block_18 rfl (ok_X1_firstSelf hG hw) q2677 q2679 qs115 q159 q2680 hd_X1_firstSelf ⟨rfl, rfl, rfl⟩ (fun r7 T6 hw => ?_)
        refine t_b C (pc' := 22) (L' := [(0, vA (some o)), (1, vI s1)]) (st' := [vI (-1), vI r7]) [(.iconst (-1), 1)] ⟨dX1_block_21, rfl⟩ rfl ?_
        refine t_icmp_eq C 27 25 dX1_block_22 rfl rfl (fun hc8 => ?_) (fun hc8 => ?_)
        · replace hw := hw.1 hc8
          refine t_b C (pc' := 29) (L' := [(0, vA (some o)), (1, vI s1)]) (st' := [vI s1, vA (some o)]) [(.aload_n 0, 1), (.iload_n 1, 1)] ⟨dX1_block_27, dX1_block_28, rfl⟩ rfl ?_
          refine t_callVV C 32 [vI s1] [] dX1_block_29 rfl (ok_X1_laysOrdered hG hw) q2649 q2651 qs110 q159 q2652 hd_X1_laysOrdered ⟨rfl, rfl, rfl⟩ (fun T9 hw => ?_)
          refine t_b C (pc' := 33) (L' := [(0, vA (some o)), (1, vI s1)]) (st' := [vA (some o)]) [(.aload_n 0, 1)] ⟨dX1_block_32, rfl⟩ rfl ?_
          refine t_callVI C 36 [] [] dX1_block_33 rfl (ok_X1_firstSelf hG hw) q2677 q2679 qs115 q159 q2680 hd_X1_firstSelf ⟨rfl, rfl, rfl⟩ (fun r12 T11 hw => ?_)
          refine t_b C (pc' := 37) (L' := [(0, vA (some o)), (1, vI s1)]) (st' := [vI (-1), vI r12]) [(.iconst (-1), 1)] ⟨dX1_block_36, rfl⟩ rfl ?_
          refine t_icmp_eq C 42 40 dX1_block_37 rfl rfl (fun hc13 => ?_) (fun hc13 => ?_)
          · replace hw := hw.1 hc13
            refine t_b C (pc' := 45) (L' := [(1, vI (s1 + 1)), (0, vA (some o))]) (st' := []) [(.iinc 1 1, 3)] ⟨dX1_block_42, rfl⟩ rfl ?_
            refine t_goto C 2 dX1_block_45 rfl ?_
            refine t_sub C (L' := [(0, vA (some o)), (1, vI (s1 + 1))]) [1, 0] rfl ?_
            obtain ⟨m9, hm9, hw⟩ := hw
            exact ih1 m9 hm9 (s1 + 1) T11 hw
          · replace hw := hw.2 hc13
            refine t_b C (pc' := 41) (L' := [(0, vA (some o)), (1, vI s1)]) (st' := [vI s1]) [(.iload_n 1, 1)] ⟨dX1_block_40, rfl⟩ rfl ?_
            exact t_iret C dX1_block_41 ⟨_, rfl, hw⟩
        · replace hw := hw.2 hc8
          refine t_b C (pc' := 26) (L' := [(0, vA (some o)), (1, vI s1)]) (st' := [vI s1]) [(.iload_n 1, 1)] ⟨dX1_block_25, rfl⟩ rfl ?_
          exact t_iret C dX1_block_26 ⟨_, rfl, hw⟩
  exact key1 n1 0 T hI1
def wp_X1_canTell (p0 : Nat) (p1 : Int32) (p2 : Int32) (T : TS) (Q : Int32 → TS → Prop) : Prop :=
  wp_X1_symbolAt p0 p1 (p2 / 8) T fun r2 T1 =>
  tix p0 40 (4 + r2) ∧
  ∀ m3 : Int32, m3 = (if (jrem p2 8) < (T1.a p0 (ni (4 + r2))) then 0 else 1) →
  ∀ m5 : Int32, m5 = (if (p2 / 8) = 0 then m3 else (if m3 = 0 then 1 else 0)) →
  bz m5 ∧ Q m5 T1
theorem hd_X1_canTell : yX1_canTell.cls ≠ "java/lang/invoke/MethodHandle" ∧ yX1_canTell.cls ≠ "java/lang/invoke/VarHandle" ∧ (parseMethodDescriptor yX1_canTell.desc).map (fun d => d.parameters.length) = some 3 := by decide +kernel
theorem ok_X1_canTell {l : Launch} {D : va_G} {s0 : S0} (hG : G0 D s0) {o : Nat} {p0 : Nat} {p1 : Int32} {p2 : Int32} {T : TS} {Q : Int32 → TS → Prop} (hw : wp_X1_canTell p0 p1 p2 T Q) : OKt l D s0 o yX1_canTell cX1_canTell 5 (some .boolean) 1 22 [vA (some (o + 1 + p0)), vI p1, vI p2] T (TI Q) := by
  refine t_met hG rfl rfl (L0 := [(0, vA (some (o + 1 + p0))), (1, vI p1), (2, vI p2)]) rfl rfl ?_
  intro h K C
  unfold wp_X1_canTell at hw
  refine t_b C (pc' := 14) (L' := [(3, vI (p2 / 8)), (0, vA (some (o + 1 + p0))), (1, vI p1), (2, vI p2)]) (st' := [vI (p2 / 8), vI p1, vA (some (o + 1 + p0)), vI 4, vA (some (o + 1 + p0)), vI (jrem p2 8)]) [(.iload_n 2, 1), (.bipush 8, 2), (.idiv, 1), (.istore_n 3, 1), (.iload_n 2, 1), (.bipush 8, 2), (.irem, 1), (.aload_n 0, 1), (.iconst 4, 1), (.aload_n 0, 1), (.iload_n 1, 1), (.iload_n 3, 1)] ⟨dX1_canTell_0, dX1_canTell_1, dX1_canTell_3, dX1_canTell_4, dX1_canTell_5, dX1_canTell_6, dX1_canTell_8, dX1_canTell_9, dX1_canTell_10, dX1_canTell_11, dX1_canTell_12, dX1_canTell_13, rfl⟩ rfl ?_
  refine t_callSI C 17 [vA (some (o + 1 + p0)), vI p1, vI (p2 / 8)] [vI 4, vA (some (o + 1 + p0)), vI (jrem p2 8)] dX1_canTell_14 rfl (ok_X1_symbolAt hG hw) q2520 q2521 q159 q2522 hd_X1_symbolAt ⟨rfl, rfl, rfl⟩ (fun r2 T1 hw => ?_)
  refine t_b C (pc' := 18) (L' := [(3, vI (p2 / 8)), (0, vA (some (o + 1 + p0))), (1, vI p1), (2, vI p2)]) (st' := [vI (4 + r2), vA (some (o + 1 + p0)), vI (jrem p2 8)]) [(.iadd, 1)] ⟨dX1_canTell_17, rfl⟩ rfl ?_
  refine t_iald C 19 dX1_canTell_18 rfl hw.1 ?_
  replace hw := hw.2
  have kj4 : ∀ (m3 : Int32), m3 = (if (jrem p2 8) < (T1.a p0 (ni (4 + r2))) then 0 else 1) → K 27 [(3, vI (p2 / 8))] [vI m3] T1 := by
    intro m3 em3
    replace hw := hw m3 em3
    refine t_b C (pc' := 30) (L' := [(4, vI m3), (3, vI (p2 / 8))]) (st' := [vI (p2 / 8)]) [(.istore 4, 2), (.iload_n 3, 1)] ⟨dX1_canTell_27, dX1_canTell_29, rfl⟩ rfl ?_
    have kj6 : ∀ (m5 : Int32), m5 = (if (p2 / 8) = 0 then m3 else (if m3 = 0 then 1 else 0)) → K 48 [] [vI m5] T1 := by
      intro m5 em5
      replace hw := hw m5 em5
      exact t_zret C dX1_canTell_48 (bz_n hw.1) ⟨_, rfl, hw.2⟩
    refine t_if_ne C 38 33 dX1_canTell_30 rfl rfl (fun hc7 => ?_) (fun hc7 => ?_)
    · refine t_b C (pc' := 40) (L' := [(4, vI m3), (3, vI (p2 / 8))]) (st' := [vI m3]) [(.iload 4, 2)] ⟨dX1_canTell_38, rfl⟩ rfl ?_
      refine t_if_ne C 47 43 dX1_canTell_40 rfl rfl (fun hc8 => ?_) (fun hc8 => ?_)
      · refine t_b C (pc' := 48) (L' := [(4, vI m3), (3, vI (p2 / 8))]) (st' := [vI 0]) [(.iconst 0, 1)] ⟨dX1_canTell_47, rfl⟩ rfl ?_
        refine t_sub C (L' := []) [] rfl ?_
        exact kj6 _ (((if_neg hc8).symm).trans ((if_neg hc7).symm))
      · refine t_b C (pc' := 44) (L' := [(4, vI m3), (3, vI (p2 / 8))]) (st' := [vI 1]) [(.iconst 1, 1)] ⟨dX1_canTell_43, rfl⟩ rfl ?_
        refine t_goto C 48 dX1_canTell_44 rfl ?_
        refine t_sub C (L' := []) [] rfl ?_
        exact kj6 _ (((if_pos hc8).symm).trans ((if_neg hc7).symm))
    · refine t_b C (pc' := 35) (L' := [(4, vI m3), (3, vI (p2 / 8))]) (st' := [vI m3]) [(.iload 4, 2)] ⟨dX1_canTell_33, rfl⟩ rfl ?_
      refine t_goto C 48 dX1_canTell_35 rfl ?_
      refine t_sub C (L' := []) [] rfl ?_
      exact kj6 _ ((if_pos hc7).symm)
  refine t_icmp_lt C 26 22 dX1_canTell_19 rfl rfl (fun hc9 => ?_) (fun hc9 => ?_)
  · refine t_b C (pc' := 27) (L' := [(3, vI (p2 / 8)), (0, vA (some (o + 1 + p0))), (1, vI p1), (2, vI p2)]) (st' := [vI 0]) [(.iconst 0, 1)] ⟨dX1_canTell_26, rfl⟩ rfl ?_
    refine t_sub C (L' := [(3, vI (p2 / 8))]) [0] rfl ?_
    exact kj4 _ ((if_pos hc9).symm)
  · refine t_b C (pc' := 23) (L' := [(3, vI (p2 / 8)), (0, vA (some (o + 1 + p0))), (1, vI p1), (2, vI p2)]) (st' := [vI 1]) [(.iconst 1, 1)] ⟨dX1_canTell_22, rfl⟩ rfl ?_
    refine t_goto C 27 dX1_canTell_23 rfl ?_
    refine t_sub C (L' := [(3, vI (p2 / 8))]) [0] rfl ?_
    exact kj4 _ ((if_neg hc9).symm)
def wp_X1_child (p0 : Int32) (p1 : Int32) (T : TS) (Q : Int32 → TS → Prop) : Prop :=
  tlp (σ := Int32 × Int32) (fun s1 T2 k1 =>
  (((T2.s 250) ≤ s1.2 →
  Q (-1) T2) ∧ (¬ (T2.s 250) ≤ s1.2 →
  tix 21 40 s1.2 ∧
  (((T2.a 21 (ni s1.2)) = p0 →
  ((s1.1 = 0 →
  Q s1.2 T2) ∧ (¬ s1.1 = 0 →
  k1 ((s1.1 + (-1)), (s1.2 + 1)) T2))) ∧ (¬ (T2.a 21 (ni s1.2)) = p0 →
  k1 (s1.1, (s1.2 + 1)) T2))))) (p1, (p0 + 1)) T
theorem hd_X1_child : yX1_child.cls = RX1 ∧ yX1_child.cls ≠ "java/lang/invoke/MethodHandle" ∧ yX1_child.cls ≠ "java/lang/invoke/VarHandle" ∧ (parseMethodDescriptor yX1_child.desc).map (fun d => d.parameters.length) = some 2 := by decide +kernel
theorem ok_X1_child {l : Launch} {D : va_G} {s0 : S0} (hG : G0 D s0) {o : Nat} {p0 : Int32} {p1 : Int32} {T : TS} {Q : Int32 → TS → Prop} (hw : wp_X1_child p0 p1 T Q) : OKt l D s0 o yX1_child cX1_child 5 (some .int) 0 0 [vA (some o), vI p0, vI p1] T (TI Q) := by
  refine t_met hG rfl rfl (L0 := [(0, vA (some o)), (1, vI p0), (2, vI p1)]) rfl rfl ?_
  intro h K C
  unfold wp_X1_child at hw
  refine t_b C (pc' := 7) (L' := [(4, vI (p0 + 1)), (3, vI p1), (0, vA (some o)), (1, vI p0), (2, vI p1)]) (st' := []) [(.iload_n 2, 1), (.istore_n 3, 1), (.iload_n 1, 1), (.iconst 1, 1), (.iadd, 1), (.istore 4, 2)] ⟨dX1_child_0, dX1_child_1, dX1_child_2, dX1_child_3, dX1_child_4, dX1_child_5, rfl⟩ rfl ?_
  obtain ⟨I1, ⟨n1, hI1⟩, hB1⟩ := tlp.out hw
  refine t_sub C (L' := [(0, vA (some o)), (1, vI p0), (3, vI p1), (4, vI (p0 + 1))]) [2, 3, 1, 0] rfl ?_
  have key1 : ∀ (n : Nat) (s1 : Int32 × Int32) (T2 : TS), I1 n s1 T2 → K 7 [(0, vA (some o)), (1, vI p0), (3, vI (s1.1)), (4, vI (s1.2))] [] T2 := by
    intro n
    induction n using Nat.strongRecOn with
    | ind n ih1 =>
      intro s1 T2 hI
      replace hw := hB1 n s1 T2 hI
      refine t_b C (pc' := 10) (L' := [(0, vA (some o)), (1, vI p0), (3, vI (s1.1)), (4, vI (s1.2))]) (st' := [vA (some o), vI (s1.2)]) [(.iload 4, 2), (.aload_n 0, 1)] ⟨dX1_child_7, dX1_child_9, rfl⟩ rfl ?_
      refine t_gI C 250 13 dX1_child_10 rfl rfl rfl q2238 (fun _ _ _ => rfl) ?_
      refine t_icmp_ge C 46 16 dX1_child_13 rfl rfl (fun hc3 => ?_) (fun hc3 => ?_)
      · replace hw := hw.1 hc3
        refine t_b C (pc' := 47) (L' := [(0, vA (some o)), (1, vI p0), (3, vI (s1.1)), (4, vI (s1.2))]) (st' := [vI (-1)]) [(.iconst (-1), 1)] ⟨dX1_child_46, rfl⟩ rfl ?_
        exact t_iret C dX1_child_47 ⟨_, rfl, hw⟩
      · replace hw := hw.2 hc3
        refine t_b C (pc' := 17) (L' := [(0, vA (some o)), (1, vI p0), (3, vI (s1.1)), (4, vI (s1.2))]) (st' := [vA (some o)]) [(.aload_n 0, 1)] ⟨dX1_child_16, rfl⟩ rfl ?_
        refine t_gA C 245 21 20 dX1_child_17 rfl rfl rfl rfl rfl q2233 (fun _ _ _ => rfl) ?_
        refine t_b C (pc' := 22) (L' := [(0, vA (some o)), (1, vI p0), (3, vI (s1.1)), (4, vI (s1.2))]) (st' := [vI (s1.2), vA (some (o + 1 + 21))]) [(.iload 4, 2)] ⟨dX1_child_20, rfl⟩ rfl ?_
        refine t_iald C 23 dX1_child_22 rfl hw.1 ?_
        replace hw := hw.2
        refine t_b C (pc' := 24) (L' := [(0, vA (some o)), (1, vI p0), (3, vI (s1.1)), (4, vI (s1.2))]) (st' := [vI p0, vI (T2.a 21 (ni s1.2))]) [(.iload_n 1, 1)] ⟨dX1_child_23, rfl⟩ rfl ?_
        refine t_icmp_eq C 30 27 dX1_child_24 rfl rfl (fun hc4 => ?_) (fun hc4 => ?_)
        · replace hw := hw.1 hc4
          refine t_b C (pc' := 31) (L' := [(0, vA (some o)), (1, vI p0), (3, vI (s1.1)), (4, vI (s1.2))]) (st' := [vI (s1.1)]) [(.iload_n 3, 1)] ⟨dX1_child_30, rfl⟩ rfl ?_
          refine t_if_ne C 37 34 dX1_child_31 rfl rfl (fun hc5 => ?_) (fun hc5 => ?_)
          · replace hw := hw.2 hc5
            refine t_b C (pc' := 43) (L' := [(4, vI (s1.2 + 1)), (3, vI (s1.1 + (-1))), (0, vA (some o)), (1, vI p0)]) (st' := []) [(.iinc 3 (-1), 3), (.iinc 4 1, 3)] ⟨dX1_child_37, dX1_child_40, rfl⟩ rfl ?_
            refine t_goto C 7 dX1_child_43 rfl ?_
            refine t_sub C (L' := [(0, vA (some o)), (1, vI p0), (3, vI (s1.1 + (-1))), (4, vI (s1.2 + 1))]) [2, 3, 1, 0] rfl ?_
            obtain ⟨m9, hm9, hw⟩ := hw
            exact ih1 m9 hm9 ((s1.1 + (-1)), (s1.2 + 1)) T2 hw
          · replace hw := hw.1 hc5
            refine t_b C (pc' := 36) (L' := [(0, vA (some o)), (1, vI p0), (3, vI (s1.1)), (4, vI (s1.2))]) (st' := [vI (s1.2)]) [(.iload 4, 2)] ⟨dX1_child_34, rfl⟩ rfl ?_
            exact t_iret C dX1_child_36 ⟨_, rfl, hw⟩
        · replace hw := hw.2 hc4
          refine t_goto C 40 dX1_child_27 rfl ?_
          refine t_b C (pc' := 43) (L' := [(4, vI (s1.2 + 1)), (0, vA (some o)), (1, vI p0), (3, vI (s1.1))]) (st' := []) [(.iinc 4 1, 3)] ⟨dX1_child_40, rfl⟩ rfl ?_
          refine t_goto C 7 dX1_child_43 rfl ?_
          refine t_sub C (L' := [(0, vA (some o)), (1, vI p0), (3, vI (s1.1)), (4, vI (s1.2 + 1))]) [1, 2, 3, 0] rfl ?_
          obtain ⟨m9, hm9, hw⟩ := hw
          exact ih1 m9 hm9 (s1.1, (s1.2 + 1)) T2 hw
  exact key1 n1 (p1, (p0 + 1)) T hI1
def wp_X1_keepsShade (p0 : Int32) (p1 : Int32) (T : TS) (Q : TS → Prop) : Prop :=
  tlp (σ := Int32) (fun s1 T2 k1 =>
  tix 16 40 p0 ∧
  (((T2.a 16 (ni p0)) ≤ s1 →
  ∀ T4, T4 = T2.ss 242 1 →
  tix 16 40 p0 ∧
  (((T4.a 16 (ni p0)) = 12 →
  ∀ T8, T8 = T4.ss 241 1 →
  Q T8) ∧ (¬ (T4.a 16 (ni p0)) = 12 →
  tix 16 40 p0 ∧
  tix 15 40 ((14 * p0) + (T4.a 16 (ni p0))) ∧
  ∀ T6, T6 = T4.sa 15 (ni ((14 * p0) + (T4.a 16 (ni p0)))) p1 →
  tix 16 40 p0 ∧
  tix 16 40 p0 ∧
  ∀ T7, T7 = T6.sa 16 (ni p0) ((T6.a 16 (ni p0)) + 1) →
  Q T7))) ∧ (¬ (T2.a 16 (ni p0)) ≤ s1 →
  tix 15 40 ((14 * p0) + s1) ∧
  (((T2.a 15 (ni ((14 * p0) + s1))) = p1 →
  Q T2) ∧ (¬ (T2.a 15 (ni ((14 * p0) + s1))) = p1 →
  k1 (s1 + 1) T2))))) 0 T
theorem hd_X1_keepsShade : yX1_keepsShade.cls = RX1 ∧ yX1_keepsShade.cls ≠ "java/lang/invoke/MethodHandle" ∧ yX1_keepsShade.cls ≠ "java/lang/invoke/VarHandle" ∧ (parseMethodDescriptor yX1_keepsShade.desc).map (fun d => d.parameters.length) = some 2 := by decide +kernel
theorem ok_X1_keepsShade {l : Launch} {D : va_G} {s0 : S0} (hG : G0 D s0) {o : Nat} {p0 : Int32} {p1 : Int32} {T : TS} {Q : TS → Prop} (hw : wp_X1_keepsShade p0 p1 T Q) : OKt l D s0 o yX1_keepsShade cX1_keepsShade 4 none 0 0 [vA (some o), vI p0, vI p1] T (TV Q) := by
  refine t_met hG rfl rfl (L0 := [(0, vA (some o)), (1, vI p0), (2, vI p1)]) rfl rfl ?_
  intro h K C
  unfold wp_X1_keepsShade at hw
  refine t_b C (pc' := 2) (L' := [(3, vI 0), (0, vA (some o)), (1, vI p0), (2, vI p1)]) (st' := []) [(.iconst 0, 1), (.istore_n 3, 1)] ⟨dX1_keepsShade_0, dX1_keepsShade_1, rfl⟩ rfl ?_
  obtain ⟨I1, ⟨n1, hI1⟩, hB1⟩ := tlp.out hw
  refine t_sub C (L' := [(0, vA (some o)), (1, vI p0), (2, vI p1), (3, vI 0)]) [1, 2, 3, 0] rfl ?_
  have key1 : ∀ (n : Nat) (s1 : Int32) (T2 : TS), I1 n s1 T2 → K 2 [(0, vA (some o)), (1, vI p0), (2, vI p1), (3, vI s1)] [] T2 := by
    intro n
    induction n using Nat.strongRecOn with
    | ind n ih1 =>
      intro s1 T2 hI
      replace hw := hB1 n s1 T2 hI
      refine t_b C (pc' := 4) (L' := [(0, vA (some o)), (1, vI p0), (2, vI p1), (3, vI s1)]) (st' := [vA (some o), vI s1]) [(.iload_n 3, 1), (.aload_n 0, 1)] ⟨dX1_keepsShade_2, dX1_keepsShade_3, rfl⟩ rfl ?_
      refine t_gA C 236 16 7 dX1_keepsShade_4 rfl rfl rfl rfl rfl q2224 (fun _ _ _ => rfl) ?_
      refine t_b C (pc' := 8) (L' := [(0, vA (some o)), (1, vI p0), (2, vI p1), (3, vI s1)]) (st' := [vI p0, vA (some (o + 1 + 16)), vI s1]) [(.iload_n 1, 1)] ⟨dX1_keepsShade_7, rfl⟩ rfl ?_
      refine t_iald C 9 dX1_keepsShade_8 rfl hw.1 ?_
      replace hw := hw.2
      refine t_icmp_ge C 34 12 dX1_keepsShade_9 rfl rfl (fun hc3 => ?_) (fun hc3 => ?_)
      · replace hw := hw.1 hc3
        refine t_b C (pc' := 36) (L' := [(0, vA (some o)), (1, vI p0), (2, vI p1), (3, vI s1)]) (st' := [vI 1, vA (some o)]) [(.aload_n 0, 1), (.iconst 1, 1)] ⟨dX1_keepsShade_34, dX1_keepsShade_35, rfl⟩ rfl ?_
        refine t_pI C 242 39 dX1_keepsShade_36 rfl rfl rfl rfl q2230 (fun _ _ _ => rfl) rfl rfl (fun T4 eT4 => ?_)
        replace hw := hw T4 eT4
        refine t_b C (pc' := 40) (L' := [(0, vA (some o)), (1, vI p0), (2, vI p1), (3, vI s1)]) (st' := [vA (some o)]) [(.aload_n 0, 1)] ⟨dX1_keepsShade_39, rfl⟩ rfl ?_
        refine t_gA C 236 16 43 dX1_keepsShade_40 rfl rfl rfl rfl rfl q2224 (fun _ _ _ => rfl) ?_
        refine t_b C (pc' := 44) (L' := [(0, vA (some o)), (1, vI p0), (2, vI p1), (3, vI s1)]) (st' := [vI p0, vA (some (o + 1 + 16))]) [(.iload_n 1, 1)] ⟨dX1_keepsShade_43, rfl⟩ rfl ?_
        refine t_iald C 45 dX1_keepsShade_44 rfl hw.1 ?_
        replace hw := hw.2
        refine t_b C (pc' := 47) (L' := [(0, vA (some o)), (1, vI p0), (2, vI p1), (3, vI s1)]) (st' := [vI 12, vI (T4.a 16 (ni p0))]) [(.bipush 12, 2)] ⟨dX1_keepsShade_45, rfl⟩ rfl ?_
        refine t_icmp_ne C 56 50 dX1_keepsShade_47 rfl rfl (fun hc5 => ?_) (fun hc5 => ?_)
        · replace hw := hw.2 hc5
          refine t_b C (pc' := 57) (L' := [(0, vA (some o)), (1, vI p0), (2, vI p1), (3, vI s1)]) (st' := [vA (some o)]) [(.aload_n 0, 1)] ⟨dX1_keepsShade_56, rfl⟩ rfl ?_
          refine t_gA C 235 15 60 dX1_keepsShade_57 rfl rfl rfl rfl rfl q2223 (fun _ _ _ => rfl) ?_
          refine t_b C (pc' := 65) (L' := [(0, vA (some o)), (1, vI p0), (2, vI p1), (3, vI s1)]) (st' := [vA (some o), vI (14 * p0), vA (some (o + 1 + 15))]) [(.bipush 14, 2), (.iload_n 1, 1), (.imul, 1), (.aload_n 0, 1)] ⟨dX1_keepsShade_60, dX1_keepsShade_62, dX1_keepsShade_63, dX1_keepsShade_64, rfl⟩ rfl ?_
          refine t_gA C 236 16 68 dX1_keepsShade_65 rfl rfl rfl rfl rfl q2224 (fun _ _ _ => rfl) ?_
          refine t_b C (pc' := 69) (L' := [(0, vA (some o)), (1, vI p0), (2, vI p1), (3, vI s1)]) (st' := [vI p0, vA (some (o + 1 + 16)), vI (14 * p0), vA (some (o + 1 + 15))]) [(.iload_n 1, 1)] ⟨dX1_keepsShade_68, rfl⟩ rfl ?_
          refine t_iald C 70 dX1_keepsShade_69 rfl hw.1 ?_
          replace hw := hw.2
          refine t_b C (pc' := 72) (L' := [(0, vA (some o)), (1, vI p0), (2, vI p1), (3, vI s1)]) (st' := [vI p1, vI ((14 * p0) + (T4.a 16 (ni p0))), vA (some (o + 1 + 15))]) [(.iadd, 1), (.iload_n 2, 1)] ⟨dX1_keepsShade_70, dX1_keepsShade_71, rfl⟩ rfl ?_
          refine t_iast C 73 dX1_keepsShade_72 rfl hw.1 (fun T6 eT6 => ?_)
          replace hw := hw.2 T6 eT6
          refine t_b C (pc' := 74) (L' := [(0, vA (some o)), (1, vI p0), (2, vI p1), (3, vI s1)]) (st' := [vA (some o)]) [(.aload_n 0, 1)] ⟨dX1_keepsShade_73, rfl⟩ rfl ?_
          refine t_gA C 236 16 77 dX1_keepsShade_74 rfl rfl rfl rfl rfl q2224 (fun _ _ _ => rfl) ?_
          refine t_b C (pc' := 79) (L' := [(0, vA (some o)), (1, vI p0), (2, vI p1), (3, vI s1)]) (st' := [vI p0, vA (some (o + 1 + 16)), vI p0, vA (some (o + 1 + 16))]) [(.iload_n 1, 1), (.dup2, 1)] ⟨dX1_keepsShade_77, dX1_keepsShade_78, rfl⟩ rfl ?_
          refine t_iald C 80 dX1_keepsShade_79 rfl hw.1 ?_
          replace hw := hw.2
          refine t_b C (pc' := 82) (L' := [(0, vA (some o)), (1, vI p0), (2, vI p1), (3, vI s1)]) (st' := [vI ((T6.a 16 (ni p0)) + 1), vI p0, vA (some (o + 1 + 16))]) [(.iconst 1, 1), (.iadd, 1)] ⟨dX1_keepsShade_80, dX1_keepsShade_81, rfl⟩ rfl ?_
          refine t_iast C 83 dX1_keepsShade_82 rfl hw.1 (fun T7 eT7 => ?_)
          replace hw := hw.2 T7 eT7
          exact t_vret C dX1_keepsShade_83 ⟨rfl, hw⟩
        · replace hw := hw.1 hc5
          refine t_b C (pc' := 52) (L' := [(0, vA (some o)), (1, vI p0), (2, vI p1), (3, vI s1)]) (st' := [vI 1, vA (some o)]) [(.aload_n 0, 1), (.iconst 1, 1)] ⟨dX1_keepsShade_50, dX1_keepsShade_51, rfl⟩ rfl ?_
          refine t_pI C 241 55 dX1_keepsShade_52 rfl rfl rfl rfl q2229 (fun _ _ _ => rfl) rfl rfl (fun T8 eT8 => ?_)
          replace hw := hw T8 eT8
          exact t_vret C dX1_keepsShade_55 ⟨rfl, hw⟩
      · replace hw := hw.2 hc3
        refine t_b C (pc' := 13) (L' := [(0, vA (some o)), (1, vI p0), (2, vI p1), (3, vI s1)]) (st' := [vA (some o)]) [(.aload_n 0, 1)] ⟨dX1_keepsShade_12, rfl⟩ rfl ?_
        refine t_gA C 235 15 16 dX1_keepsShade_13 rfl rfl rfl rfl rfl q2223 (fun _ _ _ => rfl) ?_
        refine t_b C (pc' := 22) (L' := [(0, vA (some o)), (1, vI p0), (2, vI p1), (3, vI s1)]) (st' := [vI ((14 * p0) + s1), vA (some (o + 1 + 15))]) [(.bipush 14, 2), (.iload_n 1, 1), (.imul, 1), (.iload_n 3, 1), (.iadd, 1)] ⟨dX1_keepsShade_16, dX1_keepsShade_18, dX1_keepsShade_19, dX1_keepsShade_20, dX1_keepsShade_21, rfl⟩ rfl ?_
        refine t_iald C 23 dX1_keepsShade_22 rfl hw.1 ?_
        replace hw := hw.2
        refine t_b C (pc' := 24) (L' := [(0, vA (some o)), (1, vI p0), (2, vI p1), (3, vI s1)]) (st' := [vI p1, vI (T2.a 15 (ni ((14 * p0) + s1)))]) [(.iload_n 2, 1)] ⟨dX1_keepsShade_23, rfl⟩ rfl ?_
        refine t_icmp_ne C 28 27 dX1_keepsShade_24 rfl rfl (fun hc9 => ?_) (fun hc9 => ?_)
        · replace hw := hw.2 hc9
          refine t_b C (pc' := 31) (L' := [(3, vI (s1 + 1)), (0, vA (some o)), (1, vI p0), (2, vI p1)]) (st' := []) [(.iinc 3 1, 3)] ⟨dX1_keepsShade_28, rfl⟩ rfl ?_
          refine t_goto C 2 dX1_keepsShade_31 rfl ?_
          refine t_sub C (L' := [(0, vA (some o)), (1, vI p0), (2, vI p1), (3, vI (s1 + 1))]) [1, 2, 3, 0] rfl ?_
          obtain ⟨m9, hm9, hw⟩ := hw
          exact ih1 m9 hm9 (s1 + 1) T2 hw
        · replace hw := hw.1 hc9
          exact t_vret C dX1_keepsShade_27 ⟨rfl, hw⟩
  exact key1 n1 0 T hI1
def wp_X1_shadesBy (p0 : Int32) (T : TS) (Q : TS → Prop) : Prop :=
  wp_X1_laysRules p0 T fun T1 =>
  tlp (σ := Int32) (fun s3 T4 k3 =>
  tix 1 40 (32 + p0) ∧
  (((T4.a 1 (ni (32 + p0))) < s3 →
  wp_X1_closes  T4 fun T6 =>
  wp_X1_firstSelf  T6 fun r9 T8 =>
  tjn (α := Unit) (fun J11 =>
  (((¬ (r9 = (-1)) ∧ ((T8.s 240) = 0)) →
  ∀ T14, T14 = T8.ss 240 (T8.s 239) →
  J11 () T14) ∧ (¬ (¬ (r9 = (-1)) ∧ ((T8.s 240) = 0)) →
  J11 () T8))) (fun x17 T18 =>
  tix 1 40 (20 + p0) ∧
  tix 1 40 (4 + (T18.a 1 (ni (20 + p0)))) ∧
  tlp (σ := Int32 × Int32) (fun s19 T20 k19 =>
  wp_X1_attributes (T18.a 1 (ni (20 + p0))) T20 fun r22 T21 =>
  ((r22 ≤ s19.2 →
  wp_X1_keepsShade (T18.a 1 (ni (20 + p0))) (s19.1) T21 fun T24 =>
  Q T24) ∧ (¬ r22 ≤ s19.2 →
  tix 6 40 s19.2 ∧
  tix 1 40 (4 + (T18.a 1 (ni (20 + p0)))) ∧
  tix 1 40 (4 + (T18.a 1 (ni (20 + p0)))) ∧
  k19 ((s19.1 ||| (jshl ((T21.a 6 (ni s19.2)) &&& ((jshl 1 (T21.a 1 (ni (4 + (T18.a 1 (ni (20 + p0))))))) - 1)) (4 * (s19.2 - (T21.a 1 (ni (4 + (T18.a 1 (ni (20 + p0)))))))))), (s19.2 + 1)) T21))) (0, (T18.a 1 (ni (4 + (T18.a 1 (ni (20 + p0))))))) T18)) ∧ (¬ (T4.a 1 (ni (32 + p0))) < s3 →
  wp_X1_symbolAt 1 p0 s3 T4 fun r27 T26 =>
  tix 18 40 s3 ∧
  tix 15 40 ((14 * r27) + (T26.a 18 (ni s3))) ∧
  tix 1 40 (4 + r27) ∧
  tlp (σ := Int32) (fun s28 T29 k28 =>
  wp_X1_attributes r27 T29 fun r31 T30 =>
  ((r31 ≤ s28 →
  k3 (s3 + 1) T30) ∧ (¬ r31 ≤ s28 →
  tix 6 40 ((8 * s3) + s28) ∧
  tix 1 40 (4 + r27) ∧
  tix 6 40 ((8 * s3) + s28) ∧
  ∀ T33, T33 = T30.sa 6 (ni ((8 * s3) + s28)) ((T30.a 6 (ni ((8 * s3) + s28))) ||| (jshl ((jshr (T26.a 15 (ni ((14 * r27) + (T26.a 18 (ni s3))))) (4 * (s28 - (T30.a 1 (ni (4 + r27)))))) &&& 15) (8 * s3))) →
  k28 (s28 + 1) T33))) (T26.a 1 (ni (4 + r27))) T26))) 1 T1
theorem hd_X1_shadesBy : yX1_shadesBy.cls = RX1 ∧ yX1_shadesBy.cls ≠ "java/lang/invoke/MethodHandle" ∧ yX1_shadesBy.cls ≠ "java/lang/invoke/VarHandle" ∧ (parseMethodDescriptor yX1_shadesBy.desc).map (fun d => d.parameters.length) = some 1 := by decide +kernel
theorem ok_X1_shadesBy {l : Launch} {D : va_G} {s0 : S0} (hG : G0 D s0) {o : Nat} {p0 : Int32} {T : TS} {Q : TS → Prop} (hw : wp_X1_shadesBy p0 T Q) : OKt l D s0 o yX1_shadesBy cX1_shadesBy 6 none 2 44 [vA (some o), vI p0] T (TV Q) := by
  refine t_met hG rfl rfl (L0 := [(0, vA (some o)), (1, vI p0)]) rfl rfl ?_
  intro h K C
  unfold wp_X1_shadesBy at hw
  refine t_b C (pc' := 2) (L' := [(0, vA (some o)), (1, vI p0)]) (st' := [vI p0, vA (some o)]) [(.aload_n 0, 1), (.iload_n 1, 1)] ⟨dX1_shadesBy_0, dX1_shadesBy_1, rfl⟩ rfl ?_
  refine t_callVV C 5 [vI p0] [] dX1_shadesBy_2 rfl (ok_X1_laysRules hG hw) q2566 q2568 qs95 q159 q2569 hd_X1_laysRules ⟨rfl, rfl, rfl⟩ (fun T1 hw => ?_)
  refine t_b C (pc' := 7) (L' := [(2, vI 1), (0, vA (some o)), (1, vI p0)]) (st' := []) [(.iconst 1, 1), (.istore_n 2, 1)] ⟨dX1_shadesBy_5, dX1_shadesBy_6, rfl⟩ rfl ?_
  obtain ⟨I3, ⟨n3, hI3⟩, hB3⟩ := tlp.out hw
  refine t_sub C (L' := [(0, vA (some o)), (1, vI p0), (2, vI 1)]) [1, 2, 0] rfl ?_
  have key3 : ∀ (n : Nat) (s3 : Int32) (T4 : TS), I3 n s3 T4 → K 7 [(0, vA (some o)), (1, vI p0), (2, vI s3)] [] T4 := by
    intro n
    induction n using Nat.strongRecOn with
    | ind n ih3 =>
      intro s3 T4 hI
      replace hw := hB3 n s3 T4 hI
      refine t_b C (pc' := 9) (L' := [(0, vA (some o)), (1, vI p0), (2, vI s3)]) (st' := [vA (some o), vI s3]) [(.iload_n 2, 1), (.aload_n 0, 1)] ⟨dX1_shadesBy_7, dX1_shadesBy_8, rfl⟩ rfl ?_
      refine t_gA C 201 1 12 dX1_shadesBy_9 rfl rfl rfl rfl rfl q2189 (fun _ _ _ => rfl) ?_
      refine t_b C (pc' := 16) (L' := [(0, vA (some o)), (1, vI p0), (2, vI s3)]) (st' := [vI (32 + p0), vA (some (o + 1 + 1)), vI s3]) [(.bipush 32, 2), (.iload_n 1, 1), (.iadd, 1)] ⟨dX1_shadesBy_12, dX1_shadesBy_14, dX1_shadesBy_15, rfl⟩ rfl ?_
      refine t_iald C 17 dX1_shadesBy_16 rfl hw.1 ?_
      replace hw := hw.2
      refine t_icmp_gt C 119 20 dX1_shadesBy_17 rfl rfl (fun hc5 => ?_) (fun hc5 => ?_)
      · replace hw := hw.1 hc5
        refine t_b C (pc' := 120) (L' := [(0, vA (some o)), (1, vI p0), (2, vI s3)]) (st' := [vA (some o)]) [(.aload_n 0, 1)] ⟨dX1_shadesBy_119, rfl⟩ rfl ?_
        refine t_callVV C 123 [] [] dX1_shadesBy_120 rfl (ok_X1_closes hG hw) q2582 q2584 qs99 q159 q2585 hd_X1_closes ⟨rfl, rfl, rfl⟩ (fun T6 hw => ?_)
        refine t_b C (pc' := 124) (L' := [(0, vA (some o)), (1, vI p0), (2, vI s3)]) (st' := [vA (some o)]) [(.aload_n 0, 1)] ⟨dX1_shadesBy_123, rfl⟩ rfl ?_
        refine t_callVI C 127 [] [] dX1_shadesBy_124 rfl (ok_X1_firstSelf hG hw) q2677 q2679 qs115 q159 q2680 hd_X1_firstSelf ⟨rfl, rfl, rfl⟩ (fun r9 T8 hw => ?_)
        refine t_b C (pc' := 128) (L' := [(0, vA (some o)), (1, vI p0), (2, vI s3)]) (st' := [vI (-1), vI r9]) [(.iconst (-1), 1)] ⟨dX1_shadesBy_127, rfl⟩ rfl ?_
        obtain ⟨J11, hw, hJ11⟩ := tjn.out hw
        have kj10 : ∀ (x17 : Unit) (T18 : TS), J11 x17 T18 → K 146 [(0, vA (some o)), (1, vI p0)] [] T18 := by
          intro x17 T18 hj
          replace hw := hJ11 x17 T18 hj
          refine t_b C (pc' := 147) (L' := [(0, vA (some o)), (1, vI p0)]) (st' := [vA (some o)]) [(.aload_n 0, 1)] ⟨dX1_shadesBy_146, rfl⟩ rfl ?_
          refine t_gA C 201 1 150 dX1_shadesBy_147 rfl rfl rfl rfl rfl q2189 (fun _ _ _ => rfl) ?_
          refine t_b C (pc' := 154) (L' := [(0, vA (some o)), (1, vI p0)]) (st' := [vI (20 + p0), vA (some (o + 1 + 1))]) [(.bipush 20, 2), (.iload_n 1, 1), (.iadd, 1)] ⟨dX1_shadesBy_150, dX1_shadesBy_152, dX1_shadesBy_153, rfl⟩ rfl ?_
          refine t_iald C 155 dX1_shadesBy_154 rfl hw.1 ?_
          replace hw := hw.2
          refine t_b C (pc' := 159) (L' := [(3, vI 0), (2, vI (T18.a 1 (ni (20 + p0)))), (0, vA (some o)), (1, vI p0)]) (st' := [vA (some o)]) [(.istore_n 2, 1), (.iconst 0, 1), (.istore_n 3, 1), (.aload_n 0, 1)] ⟨dX1_shadesBy_155, dX1_shadesBy_156, dX1_shadesBy_157, dX1_shadesBy_158, rfl⟩ rfl ?_
          refine t_gA C 201 1 162 dX1_shadesBy_159 rfl rfl rfl rfl rfl q2189 (fun _ _ _ => rfl) ?_
          refine t_b C (pc' := 165) (L' := [(3, vI 0), (2, vI (T18.a 1 (ni (20 + p0)))), (0, vA (some o)), (1, vI p0)]) (st' := [vI (4 + (T18.a 1 (ni (20 + p0)))), vA (some (o + 1 + 1))]) [(.iconst 4, 1), (.iload_n 2, 1), (.iadd, 1)] ⟨dX1_shadesBy_162, dX1_shadesBy_163, dX1_shadesBy_164, rfl⟩ rfl ?_
          refine t_iald C 166 dX1_shadesBy_165 rfl hw.1 ?_
          replace hw := hw.2
          refine t_b C (pc' := 168) (L' := [(4, vI (T18.a 1 (ni (4 + (T18.a 1 (ni (20 + p0))))))), (3, vI 0), (2, vI (T18.a 1 (ni (20 + p0)))), (0, vA (some o)), (1, vI p0)]) (st' := []) [(.istore 4, 2)] ⟨dX1_shadesBy_166, rfl⟩ rfl ?_
          obtain ⟨I19, ⟨n19, hI19⟩, hB19⟩ := tlp.out hw
          refine t_sub C (L' := [(0, vA (some o)), (2, vI (T18.a 1 (ni (20 + p0)))), (3, vI 0), (4, vI (T18.a 1 (ni (4 + (T18.a 1 (ni (20 + p0)))))))]) [3, 2, 1, 0] rfl ?_
          have key19 : ∀ (n : Nat) (s19 : Int32 × Int32) (T20 : TS), I19 n s19 T20 → K 168 [(0, vA (some o)), (2, vI (T18.a 1 (ni (20 + p0)))), (3, vI (s19.1)), (4, vI (s19.2))] [] T20 := by
            intro n
            induction n using Nat.strongRecOn with
            | ind n ih19 =>
              intro s19 T20 hI
              replace hw := hB19 n s19 T20 hI
              refine t_b C (pc' := 172) (L' := [(0, vA (some o)), (2, vI (T18.a 1 (ni (20 + p0)))), (3, vI (s19.1)), (4, vI (s19.2))]) (st' := [vI (T18.a 1 (ni (20 + p0))), vA (some o), vI (s19.2)]) [(.iload 4, 2), (.aload_n 0, 1), (.iload_n 2, 1)] ⟨dX1_shadesBy_168, dX1_shadesBy_170, dX1_shadesBy_171, rfl⟩ rfl ?_
              refine t_callVI C 175 [vI (T18.a 1 (ni (20 + p0)))] [vI (s19.2)] dX1_shadesBy_172 rfl (ok_X1_attributes hG hw) q2578 q2580 qs98 q159 q2581 hd_X1_attributes ⟨rfl, rfl, rfl⟩ (fun r22 T21 hw => ?_)
              refine t_icmp_ge C 221 178 dX1_shadesBy_175 rfl rfl (fun hc23 => ?_) (fun hc23 => ?_)
              · replace hw := hw.1 hc23
                refine t_b C (pc' := 224) (L' := [(0, vA (some o)), (2, vI (T18.a 1 (ni (20 + p0)))), (3, vI (s19.1)), (4, vI (s19.2))]) (st' := [vI (s19.1), vI (T18.a 1 (ni (20 + p0))), vA (some o)]) [(.aload_n 0, 1), (.iload_n 2, 1), (.iload_n 3, 1)] ⟨dX1_shadesBy_221, dX1_shadesBy_222, dX1_shadesBy_223, rfl⟩ rfl ?_
                refine t_callVV C 227 [vI (T18.a 1 (ni (20 + p0))), vI (s19.1)] [] dX1_shadesBy_224 rfl (ok_X1_keepsShade hG hw) q2746 q2748 qs128 q159 q2749 hd_X1_keepsShade ⟨rfl, rfl, rfl⟩ (fun T24 hw => ?_)
                exact t_vret C dX1_shadesBy_227 ⟨rfl, hw⟩
              · replace hw := hw.2 hc23
                refine t_b C (pc' := 180) (L' := [(0, vA (some o)), (2, vI (T18.a 1 (ni (20 + p0)))), (3, vI (s19.1)), (4, vI (s19.2))]) (st' := [vA (some o), vI (s19.1)]) [(.iload_n 3, 1), (.aload_n 0, 1)] ⟨dX1_shadesBy_178, dX1_shadesBy_179, rfl⟩ rfl ?_
                refine t_gA C 223 6 183 dX1_shadesBy_180 rfl rfl rfl rfl rfl q2211 (fun _ _ _ => rfl) ?_
                refine t_b C (pc' := 185) (L' := [(0, vA (some o)), (2, vI (T18.a 1 (ni (20 + p0)))), (3, vI (s19.1)), (4, vI (s19.2))]) (st' := [vI (s19.2), vA (some (o + 1 + 6)), vI (s19.1)]) [(.iload 4, 2)] ⟨dX1_shadesBy_183, rfl⟩ rfl ?_
                refine t_iald C 186 dX1_shadesBy_185 rfl hw.1 ?_
                replace hw := hw.2
                refine t_b C (pc' := 188) (L' := [(0, vA (some o)), (2, vI (T18.a 1 (ni (20 + p0)))), (3, vI (s19.1)), (4, vI (s19.2))]) (st' := [vA (some o), vI 1, vI (T21.a 6 (ni s19.2)), vI (s19.1)]) [(.iconst 1, 1), (.aload_n 0, 1)] ⟨dX1_shadesBy_186, dX1_shadesBy_187, rfl⟩ rfl ?_
                refine t_gA C 201 1 191 dX1_shadesBy_188 rfl rfl rfl rfl rfl q2189 (fun _ _ _ => rfl) ?_
                refine t_b C (pc' := 194) (L' := [(0, vA (some o)), (2, vI (T18.a 1 (ni (20 + p0)))), (3, vI (s19.1)), (4, vI (s19.2))]) (st' := [vI (4 + (T18.a 1 (ni (20 + p0)))), vA (some (o + 1 + 1)), vI 1, vI (T21.a 6 (ni s19.2)), vI (s19.1)]) [(.iconst 4, 1), (.iload_n 2, 1), (.iadd, 1)] ⟨dX1_shadesBy_191, dX1_shadesBy_192, dX1_shadesBy_193, rfl⟩ rfl ?_
                refine t_iald C 195 dX1_shadesBy_194 rfl hw.1 ?_
                replace hw := hw.2
                refine t_b C (pc' := 203) (L' := [(0, vA (some o)), (2, vI (T18.a 1 (ni (20 + p0)))), (3, vI (s19.1)), (4, vI (s19.2))]) (st' := [vA (some o), vI (s19.2), vI 4, vI ((T21.a 6 (ni s19.2)) &&& ((jshl 1 (T21.a 1 (ni (4 + (T18.a 1 (ni (20 + p0))))))) - 1)), vI (s19.1)]) [(.ishl, 1), (.iconst 1, 1), (.isub, 1), (.iand, 1), (.iconst 4, 1), (.iload 4, 2), (.aload_n 0, 1)] ⟨dX1_shadesBy_195, dX1_shadesBy_196, dX1_shadesBy_197, dX1_shadesBy_198, dX1_shadesBy_199, dX1_shadesBy_200, dX1_shadesBy_202, rfl⟩ rfl ?_
                refine t_gA C 201 1 206 dX1_shadesBy_203 rfl rfl rfl rfl rfl q2189 (fun _ _ _ => rfl) ?_
                refine t_b C (pc' := 209) (L' := [(0, vA (some o)), (2, vI (T18.a 1 (ni (20 + p0)))), (3, vI (s19.1)), (4, vI (s19.2))]) (st' := [vI (4 + (T18.a 1 (ni (20 + p0)))), vA (some (o + 1 + 1)), vI (s19.2), vI 4, vI ((T21.a 6 (ni s19.2)) &&& ((jshl 1 (T21.a 1 (ni (4 + (T18.a 1 (ni (20 + p0))))))) - 1)), vI (s19.1)]) [(.iconst 4, 1), (.iload_n 2, 1), (.iadd, 1)] ⟨dX1_shadesBy_206, dX1_shadesBy_207, dX1_shadesBy_208, rfl⟩ rfl ?_
                refine t_iald C 210 dX1_shadesBy_209 rfl hw.1 ?_
                replace hw := hw.2
                refine t_b C (pc' := 218) (L' := [(4, vI (s19.2 + 1)), (3, vI (s19.1 ||| (jshl ((T21.a 6 (ni s19.2)) &&& ((jshl 1 (T21.a 1 (ni (4 + (T18.a 1 (ni (20 + p0))))))) - 1)) (4 * (s19.2 - (T21.a 1 (ni (4 + (T18.a 1 (ni (20 + p0))))))))))), (0, vA (some o)), (2, vI (T18.a 1 (ni (20 + p0))))]) (st' := []) [(.isub, 1), (.imul, 1), (.ishl, 1), (.ior, 1), (.istore_n 3, 1), (.iinc 4 1, 3)] ⟨dX1_shadesBy_210, dX1_shadesBy_211, dX1_shadesBy_212, dX1_shadesBy_213, dX1_shadesBy_214, dX1_shadesBy_215, rfl⟩ rfl ?_
                refine t_goto C 168 dX1_shadesBy_218 rfl ?_
                refine t_sub C (L' := [(0, vA (some o)), (2, vI (T18.a 1 (ni (20 + p0)))), (3, vI (s19.1 ||| (jshl ((T21.a 6 (ni s19.2)) &&& ((jshl 1 (T21.a 1 (ni (4 + (T18.a 1 (ni (20 + p0))))))) - 1)) (4 * (s19.2 - (T21.a 1 (ni (4 + (T18.a 1 (ni (20 + p0))))))))))), (4, vI (s19.2 + 1))]) [2, 3, 1, 0] rfl ?_
                obtain ⟨m9, hm9, hw⟩ := hw
                exact ih19 m9 hm9 ((s19.1 ||| (jshl ((T21.a 6 (ni s19.2)) &&& ((jshl 1 (T21.a 1 (ni (4 + (T18.a 1 (ni (20 + p0))))))) - 1)) (4 * (s19.2 - (T21.a 1 (ni (4 + (T18.a 1 (ni (20 + p0)))))))))), (s19.2 + 1)) T21 hw
          exact key19 n19 (0, (T18.a 1 (ni (4 + (T18.a 1 (ni (20 + p0))))))) T18 hI19
        have kx12 : (¬ (r9 = (-1)) ∧ ((T8.s 240) = 0)) → K 143 [(0, vA (some o)), (1, vI p0), (2, vI s3)] [vI (T8.s 239), vA (some o)] T8 := by
          intro hcc
          replace hw := hw.1 hcc
          refine t_pI C 240 146 dX1_shadesBy_143 rfl rfl rfl rfl q2228 (fun _ _ _ => rfl) rfl rfl (fun T14 eT14 => ?_)
          replace hw := hw T14 eT14
          refine t_sub C (L' := [(0, vA (some o)), (1, vI p0)]) [0, 1] rfl ?_
          exact kj10 () T14 hw
        have ky13 : ¬ (¬ (r9 = (-1)) ∧ ((T8.s 240) = 0)) → K 146 [(0, vA (some o)), (1, vI p0), (2, vI s3)] [] T8 := by
          intro hcc
          replace hw := hw.2 hcc
          refine t_sub C (L' := [(0, vA (some o)), (1, vI p0)]) [0, 1] rfl ?_
          exact kj10 () T8 hw
        refine t_icmp_eq C 146 131 dX1_shadesBy_128 rfl rfl (fun hc15 => ?_) (fun hc15 => ?_)
        · exact ky13 (fun h0 => (fun h0 => h0 hc15) h0.1)
        · refine t_b C (pc' := 132) (L' := [(0, vA (some o)), (1, vI p0), (2, vI s3)]) (st' := [vA (some o)]) [(.aload_n 0, 1)] ⟨dX1_shadesBy_131, rfl⟩ rfl ?_
          refine t_gI C 240 135 dX1_shadesBy_132 rfl rfl rfl q2228 (fun _ _ _ => rfl) ?_
          refine t_if_ne C 146 138 dX1_shadesBy_135 rfl rfl (fun hc16 => ?_) (fun hc16 => ?_)
          · exact ky13 (fun h0 => hc16 h0.2)
          · refine t_b C (pc' := 140) (L' := [(0, vA (some o)), (1, vI p0), (2, vI s3)]) (st' := [vA (some o), vA (some o)]) [(.aload_n 0, 1), (.aload_n 0, 1)] ⟨dX1_shadesBy_138, dX1_shadesBy_139, rfl⟩ rfl ?_
            refine t_gI C 239 143 dX1_shadesBy_140 rfl rfl rfl q2227 (fun _ _ _ => rfl) ?_
            exact kx12 ⟨hc15, hc16⟩
      · replace hw := hw.2 hc5
        refine t_b C (pc' := 21) (L' := [(0, vA (some o)), (1, vI p0), (2, vI s3)]) (st' := [vA (some o)]) [(.aload_n 0, 1)] ⟨dX1_shadesBy_20, rfl⟩ rfl ?_
        refine t_gA C 201 1 24 dX1_shadesBy_21 rfl rfl rfl rfl rfl q2189 (fun _ _ _ => rfl) ?_
        refine t_b C (pc' := 26) (L' := [(0, vA (some o)), (1, vI p0), (2, vI s3)]) (st' := [vI s3, vI p0, vA (some (o + 1 + 1))]) [(.iload_n 1, 1), (.iload_n 2, 1)] ⟨dX1_shadesBy_24, dX1_shadesBy_25, rfl⟩ rfl ?_
        refine t_callSI C 29 [vA (some (o + 1 + 1)), vI p0, vI s3] [] dX1_shadesBy_26 rfl (ok_X1_symbolAt hG hw) q2520 q2521 q159 q2522 hd_X1_symbolAt ⟨rfl, rfl, rfl⟩ (fun r27 T26 hw => ?_)
        refine t_b C (pc' := 31) (L' := [(3, vI r27), (0, vA (some o)), (1, vI p0), (2, vI s3)]) (st' := [vA (some o)]) [(.istore_n 3, 1), (.aload_n 0, 1)] ⟨dX1_shadesBy_29, dX1_shadesBy_30, rfl⟩ rfl ?_
        refine t_gA C 235 15 34 dX1_shadesBy_31 rfl rfl rfl rfl rfl q2223 (fun _ _ _ => rfl) ?_
        refine t_b C (pc' := 39) (L' := [(3, vI r27), (0, vA (some o)), (1, vI p0), (2, vI s3)]) (st' := [vA (some o), vI (14 * r27), vA (some (o + 1 + 15))]) [(.bipush 14, 2), (.iload_n 3, 1), (.imul, 1), (.aload_n 0, 1)] ⟨dX1_shadesBy_34, dX1_shadesBy_36, dX1_shadesBy_37, dX1_shadesBy_38, rfl⟩ rfl ?_
        refine t_gA C 238 18 42 dX1_shadesBy_39 rfl rfl rfl rfl rfl q2226 (fun _ _ _ => rfl) ?_
        refine t_b C (pc' := 43) (L' := [(3, vI r27), (0, vA (some o)), (1, vI p0), (2, vI s3)]) (st' := [vI s3, vA (some (o + 1 + 18)), vI (14 * r27), vA (some (o + 1 + 15))]) [(.iload_n 2, 1)] ⟨dX1_shadesBy_42, rfl⟩ rfl ?_
        refine t_iald C 44 dX1_shadesBy_43 rfl hw.1 ?_
        replace hw := hw.2
        refine t_b C (pc' := 45) (L' := [(3, vI r27), (0, vA (some o)), (1, vI p0), (2, vI s3)]) (st' := [vI ((14 * r27) + (T26.a 18 (ni s3))), vA (some (o + 1 + 15))]) [(.iadd, 1)] ⟨dX1_shadesBy_44, rfl⟩ rfl ?_
        refine t_iald C 46 dX1_shadesBy_45 rfl hw.1 ?_
        replace hw := hw.2
        refine t_b C (pc' := 49) (L' := [(4, vI (T26.a 15 (ni ((14 * r27) + (T26.a 18 (ni s3)))))), (3, vI r27), (0, vA (some o)), (1, vI p0), (2, vI s3)]) (st' := [vA (some o)]) [(.istore 4, 2), (.aload_n 0, 1)] ⟨dX1_shadesBy_46, dX1_shadesBy_48, rfl⟩ rfl ?_
        refine t_gA C 201 1 52 dX1_shadesBy_49 rfl rfl rfl rfl rfl q2189 (fun _ _ _ => rfl) ?_
        refine t_b C (pc' := 55) (L' := [(4, vI (T26.a 15 (ni ((14 * r27) + (T26.a 18 (ni s3)))))), (3, vI r27), (0, vA (some o)), (1, vI p0), (2, vI s3)]) (st' := [vI (4 + r27), vA (some (o + 1 + 1))]) [(.iconst 4, 1), (.iload_n 3, 1), (.iadd, 1)] ⟨dX1_shadesBy_52, dX1_shadesBy_53, dX1_shadesBy_54, rfl⟩ rfl ?_
        refine t_iald C 56 dX1_shadesBy_55 rfl hw.1 ?_
        replace hw := hw.2
        refine t_b C (pc' := 58) (L' := [(5, vI (T26.a 1 (ni (4 + r27)))), (4, vI (T26.a 15 (ni ((14 * r27) + (T26.a 18 (ni s3)))))), (3, vI r27), (0, vA (some o)), (1, vI p0), (2, vI s3)]) (st' := []) [(.istore 5, 2)] ⟨dX1_shadesBy_56, rfl⟩ rfl ?_
        obtain ⟨I28, ⟨n28, hI28⟩, hB28⟩ := tlp.out hw
        refine t_sub C (L' := [(0, vA (some o)), (1, vI p0), (2, vI s3), (3, vI r27), (4, vI (T26.a 15 (ni ((14 * r27) + (T26.a 18 (ni s3)))))), (5, vI (T26.a 1 (ni (4 + r27))))]) [3, 4, 5, 2, 1, 0] rfl ?_
        have key28 : ∀ (n : Nat) (s28 : Int32) (T29 : TS), I28 n s28 T29 → K 58 [(0, vA (some o)), (1, vI p0), (2, vI s3), (3, vI r27), (4, vI (T26.a 15 (ni ((14 * r27) + (T26.a 18 (ni s3)))))), (5, vI s28)] [] T29 := by
          intro n
          induction n using Nat.strongRecOn with
          | ind n ih28 =>
            intro s28 T29 hI
            replace hw := hB28 n s28 T29 hI
            refine t_b C (pc' := 62) (L' := [(0, vA (some o)), (1, vI p0), (2, vI s3), (3, vI r27), (4, vI (T26.a 15 (ni ((14 * r27) + (T26.a 18 (ni s3)))))), (5, vI s28)]) (st' := [vI r27, vA (some o), vI s28]) [(.iload 5, 2), (.aload_n 0, 1), (.iload_n 3, 1)] ⟨dX1_shadesBy_58, dX1_shadesBy_60, dX1_shadesBy_61, rfl⟩ rfl ?_
            refine t_callVI C 65 [vI r27] [vI s28] dX1_shadesBy_62 rfl (ok_X1_attributes hG hw) q2578 q2580 qs98 q159 q2581 hd_X1_attributes ⟨rfl, rfl, rfl⟩ (fun r31 T30 hw => ?_)
            refine t_icmp_ge C 113 68 dX1_shadesBy_65 rfl rfl (fun hc32 => ?_) (fun hc32 => ?_)
            · replace hw := hw.1 hc32
              refine t_b C (pc' := 116) (L' := [(2, vI (s3 + 1)), (0, vA (some o)), (1, vI p0), (3, vI r27), (4, vI (T26.a 15 (ni ((14 * r27) + (T26.a 18 (ni s3)))))), (5, vI s28)]) (st' := []) [(.iinc 2 1, 3)] ⟨dX1_shadesBy_113, rfl⟩ rfl ?_
              refine t_goto C 7 dX1_shadesBy_116 rfl ?_
              refine t_sub C (L' := [(0, vA (some o)), (1, vI p0), (2, vI (s3 + 1))]) [1, 2, 0] rfl ?_
              obtain ⟨m9, hm9, hw⟩ := hw
              exact ih3 m9 hm9 (s3 + 1) T30 hw
            · replace hw := hw.2 hc32
              refine t_b C (pc' := 69) (L' := [(0, vA (some o)), (1, vI p0), (2, vI s3), (3, vI r27), (4, vI (T26.a 15 (ni ((14 * r27) + (T26.a 18 (ni s3)))))), (5, vI s28)]) (st' := [vA (some o)]) [(.aload_n 0, 1)] ⟨dX1_shadesBy_68, rfl⟩ rfl ?_
              refine t_gA C 223 6 72 dX1_shadesBy_69 rfl rfl rfl rfl rfl q2211 (fun _ _ _ => rfl) ?_
              refine t_b C (pc' := 80) (L' := [(0, vA (some o)), (1, vI p0), (2, vI s3), (3, vI r27), (4, vI (T26.a 15 (ni ((14 * r27) + (T26.a 18 (ni s3)))))), (5, vI s28)]) (st' := [vI ((8 * s3) + s28), vA (some (o + 1 + 6)), vI ((8 * s3) + s28), vA (some (o + 1 + 6))]) [(.bipush 8, 2), (.iload_n 2, 1), (.imul, 1), (.iload 5, 2), (.iadd, 1), (.dup2, 1)] ⟨dX1_shadesBy_72, dX1_shadesBy_74, dX1_shadesBy_75, dX1_shadesBy_76, dX1_shadesBy_78, dX1_shadesBy_79, rfl⟩ rfl ?_
              refine t_iald C 81 dX1_shadesBy_80 rfl hw.1 ?_
              replace hw := hw.2
              refine t_b C (pc' := 87) (L' := [(0, vA (some o)), (1, vI p0), (2, vI s3), (3, vI r27), (4, vI (T26.a 15 (ni ((14 * r27) + (T26.a 18 (ni s3)))))), (5, vI s28)]) (st' := [vA (some o), vI s28, vI 4, vI (T26.a 15 (ni ((14 * r27) + (T26.a 18 (ni s3))))), vI (T30.a 6 (ni ((8 * s3) + s28))), vI ((8 * s3) + s28), vA (some (o + 1 + 6))]) [(.iload 4, 2), (.iconst 4, 1), (.iload 5, 2), (.aload_n 0, 1)] ⟨dX1_shadesBy_81, dX1_shadesBy_83, dX1_shadesBy_84, dX1_shadesBy_86, rfl⟩ rfl ?_
              refine t_gA C 201 1 90 dX1_shadesBy_87 rfl rfl rfl rfl rfl q2189 (fun _ _ _ => rfl) ?_
              refine t_b C (pc' := 93) (L' := [(0, vA (some o)), (1, vI p0), (2, vI s3), (3, vI r27), (4, vI (T26.a 15 (ni ((14 * r27) + (T26.a 18 (ni s3)))))), (5, vI s28)]) (st' := [vI (4 + r27), vA (some (o + 1 + 1)), vI s28, vI 4, vI (T26.a 15 (ni ((14 * r27) + (T26.a 18 (ni s3))))), vI (T30.a 6 (ni ((8 * s3) + s28))), vI ((8 * s3) + s28), vA (some (o + 1 + 6))]) [(.iconst 4, 1), (.iload_n 3, 1), (.iadd, 1)] ⟨dX1_shadesBy_90, dX1_shadesBy_91, dX1_shadesBy_92, rfl⟩ rfl ?_
              refine t_iald C 94 dX1_shadesBy_93 rfl hw.1 ?_
              replace hw := hw.2
              refine t_b C (pc' := 106) (L' := [(0, vA (some o)), (1, vI p0), (2, vI s3), (3, vI r27), (4, vI (T26.a 15 (ni ((14 * r27) + (T26.a 18 (ni s3)))))), (5, vI s28)]) (st' := [vI ((T30.a 6 (ni ((8 * s3) + s28))) ||| (jshl ((jshr (T26.a 15 (ni ((14 * r27) + (T26.a 18 (ni s3))))) (4 * (s28 - (T30.a 1 (ni (4 + r27)))))) &&& 15) (8 * s3))), vI ((8 * s3) + s28), vA (some (o + 1 + 6))]) [(.isub, 1), (.imul, 1), (.ishr, 1), (.bipush 15, 2), (.iand, 1), (.bipush 8, 2), (.iload_n 2, 1), (.imul, 1), (.ishl, 1), (.ior, 1)] ⟨dX1_shadesBy_94, dX1_shadesBy_95, dX1_shadesBy_96, dX1_shadesBy_97, dX1_shadesBy_99, dX1_shadesBy_100, dX1_shadesBy_102, dX1_shadesBy_103, dX1_shadesBy_104, dX1_shadesBy_105, rfl⟩ rfl ?_
              refine t_iast C 107 dX1_shadesBy_106 rfl hw.1 (fun T33 eT33 => ?_)
              replace hw := hw.2 T33 eT33
              refine t_b C (pc' := 110) (L' := [(5, vI (s28 + 1)), (0, vA (some o)), (1, vI p0), (2, vI s3), (3, vI r27), (4, vI (T26.a 15 (ni ((14 * r27) + (T26.a 18 (ni s3))))))]) (st' := []) [(.iinc 5 1, 3)] ⟨dX1_shadesBy_107, rfl⟩ rfl ?_
              refine t_goto C 58 dX1_shadesBy_110 rfl ?_
              refine t_sub C (L' := [(0, vA (some o)), (1, vI p0), (2, vI s3), (3, vI r27), (4, vI (T26.a 15 (ni ((14 * r27) + (T26.a 18 (ni s3)))))), (5, vI (s28 + 1))]) [1, 2, 3, 4, 5, 0] rfl ?_
              obtain ⟨m9, hm9, hw⟩ := hw
              exact ih28 m9 hm9 (s28 + 1) T33 hw
        exact key28 n28 (T26.a 1 (ni (4 + r27))) T26 hI28
  exact key3 n3 1 T1 hI3
def wp_X1_chooses : Nat → Int32 → Int32 → TS → (TS → Prop) → Prop
  | 0, _, _, _, _ => False
  | d + 1, p0, p1, T, Q =>
    tix 1 40 (32 + p0) ∧
    ((p1 ≤ (T.a 1 (ni (32 + p0))) →
    wp_X1_symbolAt 1 p0 p1 T fun r3 T2 =>
    tlp (σ := Int32) (fun s4 T5 k4 =>
    tix 17 40 r3 ∧
    (((T5.a 17 (ni r3)) ≤ s4 →
    Q T5) ∧ (¬ (T5.a 17 (ni r3)) ≤ s4 →
    tix 18 40 p1 ∧
    ∀ T7, T7 = T5.sa 18 (ni p1) s4 →
    wp_X1_chooses d p0 (p1 + 1) T7 fun T8 =>
    k4 (s4 + 1) T8))) 0 T2) ∧ (¬ p1 ≤ (T.a 1 (ni (32 + p0))) →
    wp_X1_shadesBy p0 T fun T10 =>
    Q T10))
theorem hd_X1_chooses : yX1_chooses.cls = RX1 ∧ yX1_chooses.cls ≠ "java/lang/invoke/MethodHandle" ∧ yX1_chooses.cls ≠ "java/lang/invoke/VarHandle" ∧ (parseMethodDescriptor yX1_chooses.desc).map (fun d => d.parameters.length) = some 2 := by decide +kernel
theorem ok_X1_chooses {l : Launch} {D : va_G} {s0 : S0} (hG : G0 D s0) {o : Nat} : ∀ (d : Nat) {p0 : Int32} {p1 : Int32} {T : TS} {Q : TS → Prop}, wp_X1_chooses d p0 p1 T Q → OKt l D s0 o yX1_chooses cX1_chooses 5 none (3 + d) (69 + d * 24) [vA (some o), vI p0, vI p1] T (TV Q) := by
  intro d
  induction d with
  | zero => intro p0 p1 T Q hw; exact hw.elim
  | succ d ih =>
  intro p0 p1 T Q hw
  refine t_met hG rfl rfl (L0 := [(0, vA (some o)), (1, vI p0), (2, vI p1)]) rfl rfl ?_
  intro h K C
  unfold wp_X1_chooses at hw
  refine t_b C (pc' := 2) (L' := [(0, vA (some o)), (1, vI p0), (2, vI p1)]) (st' := [vA (some o), vI p1]) [(.iload_n 2, 1), (.aload_n 0, 1)] ⟨dX1_chooses_0, dX1_chooses_1, rfl⟩ rfl ?_
  refine t_gA C 201 1 5 dX1_chooses_2 rfl rfl rfl rfl rfl q2189 (fun _ _ _ => rfl) ?_
  refine t_b C (pc' := 9) (L' := [(0, vA (some o)), (1, vI p0), (2, vI p1)]) (st' := [vI (32 + p0), vA (some (o + 1 + 1)), vI p1]) [(.bipush 32, 2), (.iload_n 1, 1), (.iadd, 1)] ⟨dX1_chooses_5, dX1_chooses_7, dX1_chooses_8, rfl⟩ rfl ?_
  refine t_iald C 10 dX1_chooses_9 rfl hw.1 ?_
  replace hw := hw.2
  refine t_icmp_le C 19 13 dX1_chooses_10 rfl rfl (fun hc1 => ?_) (fun hc1 => ?_)
  · replace hw := hw.1 hc1
    refine t_b C (pc' := 20) (L' := [(0, vA (some o)), (1, vI p0), (2, vI p1)]) (st' := [vA (some o)]) [(.aload_n 0, 1)] ⟨dX1_chooses_19, rfl⟩ rfl ?_
    refine t_gA C 201 1 23 dX1_chooses_20 rfl rfl rfl rfl rfl q2189 (fun _ _ _ => rfl) ?_
    refine t_b C (pc' := 25) (L' := [(0, vA (some o)), (1, vI p0), (2, vI p1)]) (st' := [vI p1, vI p0, vA (some (o + 1 + 1))]) [(.iload_n 1, 1), (.iload_n 2, 1)] ⟨dX1_chooses_23, dX1_chooses_24, rfl⟩ rfl ?_
    refine t_callSI C 28 [vA (some (o + 1 + 1)), vI p0, vI p1] [] dX1_chooses_25 rfl (ok_X1_symbolAt hG hw) q2520 q2521 q159 q2522 hd_X1_symbolAt ⟨Nat.ble_eq_true_of_le (by omega), Nat.ble_eq_true_of_le (by omega), rfl⟩ (fun r3 T2 hw => ?_)
    refine t_b C (pc' := 32) (L' := [(4, vI 0), (3, vI r3), (0, vA (some o)), (1, vI p0), (2, vI p1)]) (st' := []) [(.istore_n 3, 1), (.iconst 0, 1), (.istore 4, 2)] ⟨dX1_chooses_28, dX1_chooses_29, dX1_chooses_30, rfl⟩ rfl ?_
    obtain ⟨I4, ⟨n4, hI4⟩, hB4⟩ := tlp.out hw
    refine t_sub C (L' := [(0, vA (some o)), (1, vI p0), (2, vI p1), (3, vI r3), (4, vI 0)]) [2, 3, 4, 1, 0] rfl ?_
    have key4 : ∀ (n : Nat) (s4 : Int32) (T5 : TS), I4 n s4 T5 → K 32 [(0, vA (some o)), (1, vI p0), (2, vI p1), (3, vI r3), (4, vI s4)] [] T5 := by
      intro n
      induction n using Nat.strongRecOn with
      | ind n ih4 =>
        intro s4 T5 hI
        replace hw := hB4 n s4 T5 hI
        refine t_b C (pc' := 35) (L' := [(0, vA (some o)), (1, vI p0), (2, vI p1), (3, vI r3), (4, vI s4)]) (st' := [vA (some o), vI s4]) [(.iload 4, 2), (.aload_n 0, 1)] ⟨dX1_chooses_32, dX1_chooses_34, rfl⟩ rfl ?_
        refine t_gA C 237 17 38 dX1_chooses_35 rfl rfl rfl rfl rfl q2225 (fun _ _ _ => rfl) ?_
        refine t_b C (pc' := 39) (L' := [(0, vA (some o)), (1, vI p0), (2, vI p1), (3, vI r3), (4, vI s4)]) (st' := [vI r3, vA (some (o + 1 + 17)), vI s4]) [(.iload_n 3, 1)] ⟨dX1_chooses_38, rfl⟩ rfl ?_
        refine t_iald C 40 dX1_chooses_39 rfl hw.1 ?_
        replace hw := hw.2
        refine t_icmp_ge C 65 43 dX1_chooses_40 rfl rfl (fun hc6 => ?_) (fun hc6 => ?_)
        · replace hw := hw.1 hc6
          exact t_vret C dX1_chooses_65 ⟨rfl, hw⟩
        · replace hw := hw.2 hc6
          refine t_b C (pc' := 44) (L' := [(0, vA (some o)), (1, vI p0), (2, vI p1), (3, vI r3), (4, vI s4)]) (st' := [vA (some o)]) [(.aload_n 0, 1)] ⟨dX1_chooses_43, rfl⟩ rfl ?_
          refine t_gA C 238 18 47 dX1_chooses_44 rfl rfl rfl rfl rfl q2226 (fun _ _ _ => rfl) ?_
          refine t_b C (pc' := 50) (L' := [(0, vA (some o)), (1, vI p0), (2, vI p1), (3, vI r3), (4, vI s4)]) (st' := [vI s4, vI p1, vA (some (o + 1 + 18))]) [(.iload_n 2, 1), (.iload 4, 2)] ⟨dX1_chooses_47, dX1_chooses_48, rfl⟩ rfl ?_
          refine t_iast C 51 dX1_chooses_50 rfl hw.1 (fun T7 eT7 => ?_)
          replace hw := hw.2 T7 eT7
          refine t_b C (pc' := 56) (L' := [(0, vA (some o)), (1, vI p0), (2, vI p1), (3, vI r3), (4, vI s4)]) (st' := [vI (p1 + 1), vI p0, vA (some o)]) [(.aload_n 0, 1), (.iload_n 1, 1), (.iload_n 2, 1), (.iconst 1, 1), (.iadd, 1)] ⟨dX1_chooses_51, dX1_chooses_52, dX1_chooses_53, dX1_chooses_54, dX1_chooses_55, rfl⟩ rfl ?_
          refine t_callVV C 59 [vI p0, vI (p1 + 1)] [] dX1_chooses_56 rfl (ih hw) q2738 q2740 qs126 q159 q2741 hd_X1_chooses ⟨Nat.ble_eq_true_of_le (by omega), Nat.ble_eq_true_of_le (by omega), rfl⟩ (fun T8 hw => ?_)
          refine t_b C (pc' := 62) (L' := [(4, vI (s4 + 1)), (0, vA (some o)), (1, vI p0), (2, vI p1), (3, vI r3)]) (st' := []) [(.iinc 4 1, 3)] ⟨dX1_chooses_59, rfl⟩ rfl ?_
          refine t_goto C 32 dX1_chooses_62 rfl ?_
          refine t_sub C (L' := [(0, vA (some o)), (1, vI p0), (2, vI p1), (3, vI r3), (4, vI (s4 + 1))]) [1, 2, 3, 4, 0] rfl ?_
          obtain ⟨m9, hm9, hw⟩ := hw
          exact ih4 m9 hm9 (s4 + 1) T8 hw
    exact key4 n4 0 T2 hI4
  · replace hw := hw.2 hc1
    refine t_b C (pc' := 15) (L' := [(0, vA (some o)), (1, vI p0), (2, vI p1)]) (st' := [vI p0, vA (some o)]) [(.aload_n 0, 1), (.iload_n 1, 1)] ⟨dX1_chooses_13, dX1_chooses_14, rfl⟩ rfl ?_
    refine t_callVV C 18 [vI p0] [] dX1_chooses_15 rfl (ok_X1_shadesBy hG hw) q2742 q2744 qs127 q159 q2745 hd_X1_shadesBy ⟨Nat.ble_eq_true_of_le (by omega), Nat.ble_eq_true_of_le (by omega), rfl⟩ (fun T10 hw => ?_)
    exact t_vret C dX1_chooses_18 ⟨rfl, hw⟩
def wp_X1_laysRing (p0 : Int32) (T : TS) (Q : TS → Prop) : Prop :=
  tlp (σ := Int32) (fun s1 T2 k1 =>
  ((32 ≤ s1 →
  tlp (σ := Int32) (fun s4 T5 k4 =>
  ((32 ≤ s4 →
  tix 8 40 p0 ∧
  ∀ T7, T7 = T5.ss 227 (T5.a 8 (ni p0)) →
  tlp (σ := Int32 × Int32) (fun s8 T9 k8 =>
  (((T9.s 227) ≤ s8.2 →
  Q T9) ∧ (¬ (T9.s 227) ≤ s8.2 →
  tix 9 40 s8.2 ∧
  ∀ T11, T11 = T9.sa 9 (ni s8.2) s8.1 →
  tlp (σ := Int32) (fun s12 T13 k12 =>
  (((T13.s 227) ≤ (s8.2 + 1) →
  k8 (s12, (s8.2 + 1)) T13) ∧ (¬ (T13.s 227) ≤ (s8.2 + 1) →
  tix 6 40 s8.1 ∧
  wp_X1_has (T13.a 6 (ni s8.1)) s12 T13 fun r16 T15 =>
  ((r16 = 0 →
  k12 (s12 + 1) T15) ∧ (¬ r16 = 0 →
  tix 8 40 s12 ∧
  (((T15.a 8 (ni s12)) = (((T15.s 227) - s8.2) - 1) →
  k8 (s12, (s8.2 + 1)) T15) ∧ (¬ (T15.a 8 (ni s12)) = (((T15.s 227) - s8.2) - 1) →
  k12 (s12 + 1) T15))))))) 0 T11))) (p0, 0) T7) ∧ (¬ 32 ≤ s4 →
  tlp (σ := Int32) (fun s19 T20 k19 =>
  ((32 ≤ s19 →
  k4 (s4 + 1) T20) ∧ (¬ 32 ≤ s19 →
  tlp (σ := Int32) (fun s22 T23 k22 =>
  ((32 ≤ s22 →
  k19 (s19 + 1) T23) ∧ (¬ 32 ≤ s22 →
  tix 6 40 s19 ∧
  wp_X1_has (T23.a 6 (ni s19)) s22 T23 fun r26 T25 =>
  ((r26 = 0 →
  k22 (s22 + 1) T25) ∧ (¬ r26 = 0 →
  tix 8 40 s19 ∧
  tix 8 40 s22 ∧
  tix 8 40 s19 ∧
  ∀ T28, T28 = T25.sa 8 (ni s19) (if ((T25.a 8 (ni s22)) + 1) < (T25.a 8 (ni s19)) then ((T25.a 8 (ni s22)) + 1) else (T25.a 8 (ni s19))) →
  k22 (s22 + 1) T28))))) 0 T20))) 0 T5))) 0 T2) ∧ (¬ 32 ≤ s1 →
  tix 6 40 s1 ∧
  wp_X1_has (T2.a 6 (ni s1)) p0 T2 fun r30 T29 =>
  ∀ m31 : Int32, m31 = (if r30 = 0 then 1000 else 1) →
  tix 8 40 s1 ∧
  ∀ T33, T33 = T29.sa 8 (ni s1) m31 →
  k1 (s1 + 1) T33))) 0 T
theorem hd_X1_laysRing : yX1_laysRing.cls = RX1 ∧ yX1_laysRing.cls ≠ "java/lang/invoke/MethodHandle" ∧ yX1_laysRing.cls ≠ "java/lang/invoke/VarHandle" ∧ (parseMethodDescriptor yX1_laysRing.desc).map (fun d => d.parameters.length) = some 1 := by decide +kernel
theorem ok_X1_laysRing {l : Launch} {D : va_G} {s0 : S0} (hG : G0 D s0) {o : Nat} {p0 : Int32} {T : TS} {Q : TS → Prop} (hw : wp_X1_laysRing p0 T Q) : OKt l D s0 o yX1_laysRing cX1_laysRing 5 none 1 21 [vA (some o), vI p0] T (TV Q) := by
  refine t_met hG rfl rfl (L0 := [(0, vA (some o)), (1, vI p0)]) rfl rfl ?_
  intro h K C
  unfold wp_X1_laysRing at hw
  refine t_b C (pc' := 2) (L' := [(2, vI 0), (0, vA (some o)), (1, vI p0)]) (st' := []) [(.iconst 0, 1), (.istore_n 2, 1)] ⟨dX1_laysRing_0, dX1_laysRing_1, rfl⟩ rfl ?_
  obtain ⟨I1, ⟨n1, hI1⟩, hB1⟩ := tlp.out hw
  refine t_sub C (L' := [(0, vA (some o)), (1, vI p0), (2, vI 0)]) [1, 2, 0] rfl ?_
  have key1 : ∀ (n : Nat) (s1 : Int32) (T2 : TS), I1 n s1 T2 → K 2 [(0, vA (some o)), (1, vI p0), (2, vI s1)] [] T2 := by
    intro n
    induction n using Nat.strongRecOn with
    | ind n ih1 =>
      intro s1 T2 hI
      replace hw := hB1 n s1 T2 hI
      refine t_b C (pc' := 5) (L' := [(0, vA (some o)), (1, vI p0), (2, vI s1)]) (st' := [vI 32, vI s1]) [(.iload_n 2, 1), (.bipush 32, 2)] ⟨dX1_laysRing_2, dX1_laysRing_3, rfl⟩ rfl ?_
      refine t_icmp_ge C 40 8 dX1_laysRing_5 rfl rfl (fun hc3 => ?_) (fun hc3 => ?_)
      · replace hw := hw.1 hc3
        refine t_b C (pc' := 42) (L' := [(2, vI 0), (0, vA (some o)), (1, vI p0)]) (st' := []) [(.iconst 0, 1), (.istore_n 2, 1)] ⟨dX1_laysRing_40, dX1_laysRing_41, rfl⟩ rfl ?_
        obtain ⟨I4, ⟨n4, hI4⟩, hB4⟩ := tlp.out hw
        refine t_sub C (L' := [(0, vA (some o)), (1, vI p0), (2, vI 0)]) [1, 2, 0] rfl ?_
        have key4 : ∀ (n : Nat) (s4 : Int32) (T5 : TS), I4 n s4 T5 → K 42 [(0, vA (some o)), (1, vI p0), (2, vI s4)] [] T5 := by
          intro n
          induction n using Nat.strongRecOn with
          | ind n ih4 =>
            intro s4 T5 hI
            replace hw := hB4 n s4 T5 hI
            refine t_b C (pc' := 45) (L' := [(0, vA (some o)), (1, vI p0), (2, vI s4)]) (st' := [vI 32, vI s4]) [(.iload_n 2, 1), (.bipush 32, 2)] ⟨dX1_laysRing_42, dX1_laysRing_43, rfl⟩ rfl ?_
            refine t_icmp_ge C 122 48 dX1_laysRing_45 rfl rfl (fun hc6 => ?_) (fun hc6 => ?_)
            · replace hw := hw.1 hc6
              refine t_b C (pc' := 124) (L' := [(0, vA (some o)), (1, vI p0), (2, vI s4)]) (st' := [vA (some o), vA (some o)]) [(.aload_n 0, 1), (.aload_n 0, 1)] ⟨dX1_laysRing_122, dX1_laysRing_123, rfl⟩ rfl ?_
              refine t_gA C 225 8 127 dX1_laysRing_124 rfl rfl rfl rfl rfl q2213 (fun _ _ _ => rfl) ?_
              refine t_b C (pc' := 128) (L' := [(0, vA (some o)), (1, vI p0), (2, vI s4)]) (st' := [vI p0, vA (some (o + 1 + 8)), vA (some o)]) [(.iload_n 1, 1)] ⟨dX1_laysRing_127, rfl⟩ rfl ?_
              refine t_iald C 129 dX1_laysRing_128 rfl hw.1 ?_
              replace hw := hw.2
              refine t_pI C 227 132 dX1_laysRing_129 rfl rfl rfl rfl q2215 (fun _ _ _ => rfl) rfl rfl (fun T7 eT7 => ?_)
              replace hw := hw T7 eT7
              refine t_b C (pc' := 136) (L' := [(3, vI 0), (2, vI p0), (0, vA (some o)), (1, vI p0)]) (st' := []) [(.iload_n 1, 1), (.istore_n 2, 1), (.iconst 0, 1), (.istore_n 3, 1)] ⟨dX1_laysRing_132, dX1_laysRing_133, dX1_laysRing_134, dX1_laysRing_135, rfl⟩ rfl ?_
              obtain ⟨I8, ⟨n8, hI8⟩, hB8⟩ := tlp.out hw
              refine t_sub C (L' := [(0, vA (some o)), (2, vI p0), (3, vI 0)]) [2, 1, 0] rfl ?_
              have key8 : ∀ (n : Nat) (s8 : Int32 × Int32) (T9 : TS), I8 n s8 T9 → K 136 [(0, vA (some o)), (2, vI (s8.1)), (3, vI (s8.2))] [] T9 := by
                intro n
                induction n using Nat.strongRecOn with
                | ind n ih8 =>
                  intro s8 T9 hI
                  replace hw := hB8 n s8 T9 hI
                  refine t_b C (pc' := 138) (L' := [(0, vA (some o)), (2, vI (s8.1)), (3, vI (s8.2))]) (st' := [vA (some o), vI (s8.2)]) [(.iload_n 3, 1), (.aload_n 0, 1)] ⟨dX1_laysRing_136, dX1_laysRing_137, rfl⟩ rfl ?_
                  refine t_gI C 227 141 dX1_laysRing_138 rfl rfl rfl q2215 (fun _ _ _ => rfl) ?_
                  refine t_icmp_ge C 211 144 dX1_laysRing_141 rfl rfl (fun hc10 => ?_) (fun hc10 => ?_)
                  · replace hw := hw.1 hc10
                    exact t_vret C dX1_laysRing_211 ⟨rfl, hw⟩
                  · replace hw := hw.2 hc10
                    refine t_b C (pc' := 145) (L' := [(0, vA (some o)), (2, vI (s8.1)), (3, vI (s8.2))]) (st' := [vA (some o)]) [(.aload_n 0, 1)] ⟨dX1_laysRing_144, rfl⟩ rfl ?_
                    refine t_gA C 226 9 148 dX1_laysRing_145 rfl rfl rfl rfl rfl q2214 (fun _ _ _ => rfl) ?_
                    refine t_b C (pc' := 150) (L' := [(0, vA (some o)), (2, vI (s8.1)), (3, vI (s8.2))]) (st' := [vI (s8.1), vI (s8.2), vA (some (o + 1 + 9))]) [(.iload_n 3, 1), (.iload_n 2, 1)] ⟨dX1_laysRing_148, dX1_laysRing_149, rfl⟩ rfl ?_
                    refine t_iast C 151 dX1_laysRing_150 rfl hw.1 (fun T11 eT11 => ?_)
                    replace hw := hw.2 T11 eT11
                    refine t_b C (pc' := 154) (L' := [(4, vI 0), (0, vA (some o)), (2, vI (s8.1)), (3, vI (s8.2))]) (st' := []) [(.iconst 0, 1), (.istore 4, 2)] ⟨dX1_laysRing_151, dX1_laysRing_152, rfl⟩ rfl ?_
                    obtain ⟨I12, ⟨n12, hI12⟩, hB12⟩ := tlp.out hw
                    refine t_sub C (L' := [(0, vA (some o)), (2, vI (s8.1)), (3, vI (s8.2)), (4, vI 0)]) [1, 2, 3, 0] rfl ?_
                    have key12 : ∀ (n : Nat) (s12 : Int32) (T13 : TS), I12 n s12 T13 → K 154 [(0, vA (some o)), (2, vI (s8.1)), (3, vI (s8.2)), (4, vI s12)] [] T13 := by
                      intro n
                      induction n using Nat.strongRecOn with
                      | ind n ih12 =>
                        intro s12 T13 hI
                        replace hw := hB12 n s12 T13 hI
                        refine t_b C (pc' := 158) (L' := [(0, vA (some o)), (2, vI (s8.1)), (3, vI (s8.2)), (4, vI s12)]) (st' := [vA (some o), vI (s8.2 + 1)]) [(.iload_n 3, 1), (.iconst 1, 1), (.iadd, 1), (.aload_n 0, 1)] ⟨dX1_laysRing_154, dX1_laysRing_155, dX1_laysRing_156, dX1_laysRing_157, rfl⟩ rfl ?_
                        refine t_gI C 227 161 dX1_laysRing_158 rfl rfl rfl q2215 (fun _ _ _ => rfl) ?_
                        refine t_icmp_ge C 202 164 dX1_laysRing_161 rfl rfl (fun hc14 => ?_) (fun hc14 => ?_)
                        · replace hw := hw.1 hc14
                          refine t_b C (pc' := 208) (L' := [(3, vI (s8.2 + 1)), (2, vI s12), (0, vA (some o)), (4, vI s12)]) (st' := []) [(.iload 4, 2), (.istore_n 2, 1), (.iinc 3 1, 3)] ⟨dX1_laysRing_202, dX1_laysRing_204, dX1_laysRing_205, rfl⟩ rfl ?_
                          refine t_goto C 136 dX1_laysRing_208 rfl ?_
                          refine t_sub C (L' := [(0, vA (some o)), (2, vI s12), (3, vI (s8.2 + 1))]) [2, 1, 0] rfl ?_
                          obtain ⟨m9, hm9, hw⟩ := hw
                          exact ih8 m9 hm9 (s12, (s8.2 + 1)) T13 hw
                        · replace hw := hw.2 hc14
                          refine t_b C (pc' := 165) (L' := [(0, vA (some o)), (2, vI (s8.1)), (3, vI (s8.2)), (4, vI s12)]) (st' := [vA (some o)]) [(.aload_n 0, 1)] ⟨dX1_laysRing_164, rfl⟩ rfl ?_
                          refine t_gA C 223 6 168 dX1_laysRing_165 rfl rfl rfl rfl rfl q2211 (fun _ _ _ => rfl) ?_
                          refine t_b C (pc' := 169) (L' := [(0, vA (some o)), (2, vI (s8.1)), (3, vI (s8.2)), (4, vI s12)]) (st' := [vI (s8.1), vA (some (o + 1 + 6))]) [(.iload_n 2, 1)] ⟨dX1_laysRing_168, rfl⟩ rfl ?_
                          refine t_iald C 170 dX1_laysRing_169 rfl hw.1 ?_
                          replace hw := hw.2
                          refine t_b C (pc' := 172) (L' := [(0, vA (some o)), (2, vI (s8.1)), (3, vI (s8.2)), (4, vI s12)]) (st' := [vI s12, vI (T13.a 6 (ni s8.1))]) [(.iload 4, 2)] ⟨dX1_laysRing_170, rfl⟩ rfl ?_
                          refine t_callSI C 175 [vI (T13.a 6 (ni s8.1)), vI s12] [] dX1_laysRing_172 rfl (ok_X1_has hG hw) q2586 q2587 q159 q2588 hd_X1_has ⟨rfl, rfl, rfl⟩ (fun r16 T15 hw => ?_)
                          refine t_if_eq C 196 178 dX1_laysRing_175 rfl rfl (fun hc17 => ?_) (fun hc17 => ?_)
                          · replace hw := hw.1 hc17
                            refine t_b C (pc' := 199) (L' := [(4, vI (s12 + 1)), (0, vA (some o)), (2, vI (s8.1)), (3, vI (s8.2))]) (st' := []) [(.iinc 4 1, 3)] ⟨dX1_laysRing_196, rfl⟩ rfl ?_
                            refine t_goto C 154 dX1_laysRing_199 rfl ?_
                            refine t_sub C (L' := [(0, vA (some o)), (2, vI (s8.1)), (3, vI (s8.2)), (4, vI (s12 + 1))]) [1, 2, 3, 0] rfl ?_
                            obtain ⟨m9, hm9, hw⟩ := hw
                            exact ih12 m9 hm9 (s12 + 1) T15 hw
                          · replace hw := hw.2 hc17
                            refine t_b C (pc' := 179) (L' := [(0, vA (some o)), (2, vI (s8.1)), (3, vI (s8.2)), (4, vI s12)]) (st' := [vA (some o)]) [(.aload_n 0, 1)] ⟨dX1_laysRing_178, rfl⟩ rfl ?_
                            refine t_gA C 225 8 182 dX1_laysRing_179 rfl rfl rfl rfl rfl q2213 (fun _ _ _ => rfl) ?_
                            refine t_b C (pc' := 184) (L' := [(0, vA (some o)), (2, vI (s8.1)), (3, vI (s8.2)), (4, vI s12)]) (st' := [vI s12, vA (some (o + 1 + 8))]) [(.iload 4, 2)] ⟨dX1_laysRing_182, rfl⟩ rfl ?_
                            refine t_iald C 185 dX1_laysRing_184 rfl hw.1 ?_
                            replace hw := hw.2
                            refine t_b C (pc' := 186) (L' := [(0, vA (some o)), (2, vI (s8.1)), (3, vI (s8.2)), (4, vI s12)]) (st' := [vA (some o), vI (T15.a 8 (ni s12))]) [(.aload_n 0, 1)] ⟨dX1_laysRing_185, rfl⟩ rfl ?_
                            refine t_gI C 227 189 dX1_laysRing_186 rfl rfl rfl q2215 (fun _ _ _ => rfl) ?_
                            refine t_b C (pc' := 193) (L' := [(0, vA (some o)), (2, vI (s8.1)), (3, vI (s8.2)), (4, vI s12)]) (st' := [vI (((T15.s 227) - s8.2) - 1), vI (T15.a 8 (ni s12))]) [(.iload_n 3, 1), (.isub, 1), (.iconst 1, 1), (.isub, 1)] ⟨dX1_laysRing_189, dX1_laysRing_190, dX1_laysRing_191, dX1_laysRing_192, rfl⟩ rfl ?_
                            refine t_icmp_eq C 202 196 dX1_laysRing_193 rfl rfl (fun hc18 => ?_) (fun hc18 => ?_)
                            · replace hw := hw.1 hc18
                              refine t_b C (pc' := 208) (L' := [(3, vI (s8.2 + 1)), (2, vI s12), (0, vA (some o)), (4, vI s12)]) (st' := []) [(.iload 4, 2), (.istore_n 2, 1), (.iinc 3 1, 3)] ⟨dX1_laysRing_202, dX1_laysRing_204, dX1_laysRing_205, rfl⟩ rfl ?_
                              refine t_goto C 136 dX1_laysRing_208 rfl ?_
                              refine t_sub C (L' := [(0, vA (some o)), (2, vI s12), (3, vI (s8.2 + 1))]) [2, 1, 0] rfl ?_
                              obtain ⟨m9, hm9, hw⟩ := hw
                              exact ih8 m9 hm9 (s12, (s8.2 + 1)) T15 hw
                            · replace hw := hw.2 hc18
                              refine t_b C (pc' := 199) (L' := [(4, vI (s12 + 1)), (0, vA (some o)), (2, vI (s8.1)), (3, vI (s8.2))]) (st' := []) [(.iinc 4 1, 3)] ⟨dX1_laysRing_196, rfl⟩ rfl ?_
                              refine t_goto C 154 dX1_laysRing_199 rfl ?_
                              refine t_sub C (L' := [(0, vA (some o)), (2, vI (s8.1)), (3, vI (s8.2)), (4, vI (s12 + 1))]) [1, 2, 3, 0] rfl ?_
                              obtain ⟨m9, hm9, hw⟩ := hw
                              exact ih12 m9 hm9 (s12 + 1) T15 hw
                    exact key12 n12 0 T11 hI12
              exact key8 n8 (p0, 0) T7 hI8
            · replace hw := hw.2 hc6
              refine t_b C (pc' := 50) (L' := [(3, vI 0), (0, vA (some o)), (1, vI p0), (2, vI s4)]) (st' := []) [(.iconst 0, 1), (.istore_n 3, 1)] ⟨dX1_laysRing_48, dX1_laysRing_49, rfl⟩ rfl ?_
              obtain ⟨I19, ⟨n19, hI19⟩, hB19⟩ := tlp.out hw
              refine t_sub C (L' := [(0, vA (some o)), (1, vI p0), (2, vI s4), (3, vI 0)]) [1, 2, 3, 0] rfl ?_
              have key19 : ∀ (n : Nat) (s19 : Int32) (T20 : TS), I19 n s19 T20 → K 50 [(0, vA (some o)), (1, vI p0), (2, vI s4), (3, vI s19)] [] T20 := by
                intro n
                induction n using Nat.strongRecOn with
                | ind n ih19 =>
                  intro s19 T20 hI
                  replace hw := hB19 n s19 T20 hI
                  refine t_b C (pc' := 53) (L' := [(0, vA (some o)), (1, vI p0), (2, vI s4), (3, vI s19)]) (st' := [vI 32, vI s19]) [(.iload_n 3, 1), (.bipush 32, 2)] ⟨dX1_laysRing_50, dX1_laysRing_51, rfl⟩ rfl ?_
                  refine t_icmp_ge C 116 56 dX1_laysRing_53 rfl rfl (fun hc21 => ?_) (fun hc21 => ?_)
                  · replace hw := hw.1 hc21
                    refine t_b C (pc' := 119) (L' := [(2, vI (s4 + 1)), (0, vA (some o)), (1, vI p0), (3, vI s19)]) (st' := []) [(.iinc 2 1, 3)] ⟨dX1_laysRing_116, rfl⟩ rfl ?_
                    refine t_goto C 42 dX1_laysRing_119 rfl ?_
                    refine t_sub C (L' := [(0, vA (some o)), (1, vI p0), (2, vI (s4 + 1))]) [1, 2, 0] rfl ?_
                    obtain ⟨m9, hm9, hw⟩ := hw
                    exact ih4 m9 hm9 (s4 + 1) T20 hw
                  · replace hw := hw.2 hc21
                    refine t_b C (pc' := 59) (L' := [(4, vI 0), (0, vA (some o)), (1, vI p0), (2, vI s4), (3, vI s19)]) (st' := []) [(.iconst 0, 1), (.istore 4, 2)] ⟨dX1_laysRing_56, dX1_laysRing_57, rfl⟩ rfl ?_
                    obtain ⟨I22, ⟨n22, hI22⟩, hB22⟩ := tlp.out hw
                    refine t_sub C (L' := [(0, vA (some o)), (1, vI p0), (2, vI s4), (3, vI s19), (4, vI 0)]) [1, 2, 3, 4, 0] rfl ?_
                    have key22 : ∀ (n : Nat) (s22 : Int32) (T23 : TS), I22 n s22 T23 → K 59 [(0, vA (some o)), (1, vI p0), (2, vI s4), (3, vI s19), (4, vI s22)] [] T23 := by
                      intro n
                      induction n using Nat.strongRecOn with
                      | ind n ih22 =>
                        intro s22 T23 hI
                        replace hw := hB22 n s22 T23 hI
                        refine t_b C (pc' := 63) (L' := [(0, vA (some o)), (1, vI p0), (2, vI s4), (3, vI s19), (4, vI s22)]) (st' := [vI 32, vI s22]) [(.iload 4, 2), (.bipush 32, 2)] ⟨dX1_laysRing_59, dX1_laysRing_61, rfl⟩ rfl ?_
                        refine t_icmp_ge C 110 66 dX1_laysRing_63 rfl rfl (fun hc24 => ?_) (fun hc24 => ?_)
                        · replace hw := hw.1 hc24
                          refine t_b C (pc' := 113) (L' := [(3, vI (s19 + 1)), (0, vA (some o)), (1, vI p0), (2, vI s4), (4, vI s22)]) (st' := []) [(.iinc 3 1, 3)] ⟨dX1_laysRing_110, rfl⟩ rfl ?_
                          refine t_goto C 50 dX1_laysRing_113 rfl ?_
                          refine t_sub C (L' := [(0, vA (some o)), (1, vI p0), (2, vI s4), (3, vI (s19 + 1))]) [1, 2, 3, 0] rfl ?_
                          obtain ⟨m9, hm9, hw⟩ := hw
                          exact ih19 m9 hm9 (s19 + 1) T23 hw
                        · replace hw := hw.2 hc24
                          refine t_b C (pc' := 67) (L' := [(0, vA (some o)), (1, vI p0), (2, vI s4), (3, vI s19), (4, vI s22)]) (st' := [vA (some o)]) [(.aload_n 0, 1)] ⟨dX1_laysRing_66, rfl⟩ rfl ?_
                          refine t_gA C 223 6 70 dX1_laysRing_67 rfl rfl rfl rfl rfl q2211 (fun _ _ _ => rfl) ?_
                          refine t_b C (pc' := 71) (L' := [(0, vA (some o)), (1, vI p0), (2, vI s4), (3, vI s19), (4, vI s22)]) (st' := [vI s19, vA (some (o + 1 + 6))]) [(.iload_n 3, 1)] ⟨dX1_laysRing_70, rfl⟩ rfl ?_
                          refine t_iald C 72 dX1_laysRing_71 rfl hw.1 ?_
                          replace hw := hw.2
                          refine t_b C (pc' := 74) (L' := [(0, vA (some o)), (1, vI p0), (2, vI s4), (3, vI s19), (4, vI s22)]) (st' := [vI s22, vI (T23.a 6 (ni s19))]) [(.iload 4, 2)] ⟨dX1_laysRing_72, rfl⟩ rfl ?_
                          refine t_callSI C 77 [vI (T23.a 6 (ni s19)), vI s22] [] dX1_laysRing_74 rfl (ok_X1_has hG hw) q2586 q2587 q159 q2588 hd_X1_has ⟨rfl, rfl, rfl⟩ (fun r26 T25 hw => ?_)
                          refine t_if_eq C 104 80 dX1_laysRing_77 rfl rfl (fun hc27 => ?_) (fun hc27 => ?_)
                          · replace hw := hw.1 hc27
                            refine t_b C (pc' := 107) (L' := [(4, vI (s22 + 1)), (0, vA (some o)), (1, vI p0), (2, vI s4), (3, vI s19)]) (st' := []) [(.iinc 4 1, 3)] ⟨dX1_laysRing_104, rfl⟩ rfl ?_
                            refine t_goto C 59 dX1_laysRing_107 rfl ?_
                            refine t_sub C (L' := [(0, vA (some o)), (1, vI p0), (2, vI s4), (3, vI s19), (4, vI (s22 + 1))]) [1, 2, 3, 4, 0] rfl ?_
                            obtain ⟨m9, hm9, hw⟩ := hw
                            exact ih22 m9 hm9 (s22 + 1) T25 hw
                          · replace hw := hw.2 hc27
                            refine t_b C (pc' := 81) (L' := [(0, vA (some o)), (1, vI p0), (2, vI s4), (3, vI s19), (4, vI s22)]) (st' := [vA (some o)]) [(.aload_n 0, 1)] ⟨dX1_laysRing_80, rfl⟩ rfl ?_
                            refine t_gA C 225 8 84 dX1_laysRing_81 rfl rfl rfl rfl rfl q2213 (fun _ _ _ => rfl) ?_
                            refine t_b C (pc' := 86) (L' := [(0, vA (some o)), (1, vI p0), (2, vI s4), (3, vI s19), (4, vI s22)]) (st' := [vA (some o), vI s19, vA (some (o + 1 + 8))]) [(.iload_n 3, 1), (.aload_n 0, 1)] ⟨dX1_laysRing_84, dX1_laysRing_85, rfl⟩ rfl ?_
                            refine t_gA C 225 8 89 dX1_laysRing_86 rfl rfl rfl rfl rfl q2213 (fun _ _ _ => rfl) ?_
                            refine t_b C (pc' := 90) (L' := [(0, vA (some o)), (1, vI p0), (2, vI s4), (3, vI s19), (4, vI s22)]) (st' := [vI s19, vA (some (o + 1 + 8)), vI s19, vA (some (o + 1 + 8))]) [(.iload_n 3, 1)] ⟨dX1_laysRing_89, rfl⟩ rfl ?_
                            refine t_iald C 91 dX1_laysRing_90 rfl hw.1 ?_
                            replace hw := hw.2
                            refine t_b C (pc' := 92) (L' := [(0, vA (some o)), (1, vI p0), (2, vI s4), (3, vI s19), (4, vI s22)]) (st' := [vA (some o), vI (T25.a 8 (ni s19)), vI s19, vA (some (o + 1 + 8))]) [(.aload_n 0, 1)] ⟨dX1_laysRing_91, rfl⟩ rfl ?_
                            refine t_gA C 225 8 95 dX1_laysRing_92 rfl rfl rfl rfl rfl q2213 (fun _ _ _ => rfl) ?_
                            refine t_b C (pc' := 97) (L' := [(0, vA (some o)), (1, vI p0), (2, vI s4), (3, vI s19), (4, vI s22)]) (st' := [vI s22, vA (some (o + 1 + 8)), vI (T25.a 8 (ni s19)), vI s19, vA (some (o + 1 + 8))]) [(.iload 4, 2)] ⟨dX1_laysRing_95, rfl⟩ rfl ?_
                            refine t_iald C 98 dX1_laysRing_97 rfl hw.1 ?_
                            replace hw := hw.2
                            refine t_b C (pc' := 100) (L' := [(0, vA (some o)), (1, vI p0), (2, vI s4), (3, vI s19), (4, vI s22)]) (st' := [vI ((T25.a 8 (ni s22)) + 1), vI (T25.a 8 (ni s19)), vI s19, vA (some (o + 1 + 8))]) [(.iconst 1, 1), (.iadd, 1)] ⟨dX1_laysRing_98, dX1_laysRing_99, rfl⟩ rfl ?_
                            refine t_mmin C 103 [vI s19, vA (some (o + 1 + 8))] dX1_laysRing_100 rfl q2685 q393 q166 q394 ⟨rfl, rfl⟩ ?_
                            refine t_iast C 104 dX1_laysRing_103 rfl hw.1 (fun T28 eT28 => ?_)
                            replace hw := hw.2 T28 eT28
                            refine t_b C (pc' := 107) (L' := [(4, vI (s22 + 1)), (0, vA (some o)), (1, vI p0), (2, vI s4), (3, vI s19)]) (st' := []) [(.iinc 4 1, 3)] ⟨dX1_laysRing_104, rfl⟩ rfl ?_
                            refine t_goto C 59 dX1_laysRing_107 rfl ?_
                            refine t_sub C (L' := [(0, vA (some o)), (1, vI p0), (2, vI s4), (3, vI s19), (4, vI (s22 + 1))]) [1, 2, 3, 4, 0] rfl ?_
                            obtain ⟨m9, hm9, hw⟩ := hw
                            exact ih22 m9 hm9 (s22 + 1) T28 hw
                    exact key22 n22 0 T20 hI22
              exact key19 n19 0 T5 hI19
        exact key4 n4 0 T2 hI4
      · replace hw := hw.2 hc3
        refine t_b C (pc' := 9) (L' := [(0, vA (some o)), (1, vI p0), (2, vI s1)]) (st' := [vA (some o)]) [(.aload_n 0, 1)] ⟨dX1_laysRing_8, rfl⟩ rfl ?_
        refine t_gA C 225 8 12 dX1_laysRing_9 rfl rfl rfl rfl rfl q2213 (fun _ _ _ => rfl) ?_
        refine t_b C (pc' := 14) (L' := [(0, vA (some o)), (1, vI p0), (2, vI s1)]) (st' := [vA (some o), vI s1, vA (some (o + 1 + 8))]) [(.iload_n 2, 1), (.aload_n 0, 1)] ⟨dX1_laysRing_12, dX1_laysRing_13, rfl⟩ rfl ?_
        refine t_gA C 223 6 17 dX1_laysRing_14 rfl rfl rfl rfl rfl q2211 (fun _ _ _ => rfl) ?_
        refine t_b C (pc' := 18) (L' := [(0, vA (some o)), (1, vI p0), (2, vI s1)]) (st' := [vI s1, vA (some (o + 1 + 6)), vI s1, vA (some (o + 1 + 8))]) [(.iload_n 2, 1)] ⟨dX1_laysRing_17, rfl⟩ rfl ?_
        refine t_iald C 19 dX1_laysRing_18 rfl hw.1 ?_
        replace hw := hw.2
        refine t_b C (pc' := 20) (L' := [(0, vA (some o)), (1, vI p0), (2, vI s1)]) (st' := [vI p0, vI (T2.a 6 (ni s1)), vI s1, vA (some (o + 1 + 8))]) [(.iload_n 1, 1)] ⟨dX1_laysRing_19, rfl⟩ rfl ?_
        refine t_callSI C 23 [vI (T2.a 6 (ni s1)), vI p0] [vI s1, vA (some (o + 1 + 8))] dX1_laysRing_20 rfl (ok_X1_has hG hw) q2586 q2587 q159 q2588 hd_X1_has ⟨rfl, rfl, rfl⟩ (fun r30 T29 hw => ?_)
        have kj32 : ∀ (m31 : Int32), m31 = (if r30 = 0 then 1000 else 1) → K 33 [(0, vA (some o)), (1, vI p0), (2, vI s1)] [vI m31, vI s1, vA (some (o + 1 + 8))] T29 := by
          intro m31 em31
          replace hw := hw m31 em31
          refine t_iast C 34 dX1_laysRing_33 rfl hw.1 (fun T33 eT33 => ?_)
          replace hw := hw.2 T33 eT33
          refine t_b C (pc' := 37) (L' := [(2, vI (s1 + 1)), (0, vA (some o)), (1, vI p0)]) (st' := []) [(.iinc 2 1, 3)] ⟨dX1_laysRing_34, rfl⟩ rfl ?_
          refine t_goto C 2 dX1_laysRing_37 rfl ?_
          refine t_sub C (L' := [(0, vA (some o)), (1, vI p0), (2, vI (s1 + 1))]) [1, 2, 0] rfl ?_
          obtain ⟨m9, hm9, hw⟩ := hw
          exact ih1 m9 hm9 (s1 + 1) T33 hw
        refine t_if_eq C 30 26 dX1_laysRing_23 rfl rfl (fun hc34 => ?_) (fun hc34 => ?_)
        · refine t_b C (pc' := 33) (L' := [(0, vA (some o)), (1, vI p0), (2, vI s1)]) (st' := [vI 1000, vI s1, vA (some (o + 1 + 8))]) [(.sipush 1000, 3)] ⟨dX1_laysRing_30, rfl⟩ rfl ?_
          refine t_sub C (L' := [(0, vA (some o)), (1, vI p0), (2, vI s1)]) [0, 1, 2] rfl ?_
          exact kj32 _ ((if_pos hc34).symm)
        · refine t_b C (pc' := 27) (L' := [(0, vA (some o)), (1, vI p0), (2, vI s1)]) (st' := [vI 1, vI s1, vA (some (o + 1 + 8))]) [(.iconst 1, 1)] ⟨dX1_laysRing_26, rfl⟩ rfl ?_
          refine t_goto C 33 dX1_laysRing_27 rfl ?_
          refine t_sub C (L' := [(0, vA (some o)), (1, vI p0), (2, vI s1)]) [0, 1, 2] rfl ?_
          exact kj32 _ ((if_neg hc34).symm)
  exact key1 n1 0 T hI1
def wp_X1_findsCircle  (T : TS) (Q : Int32 → TS → Prop) : Prop :=
  tlp (σ := Int32) (fun s1 T2 k1 =>
  tix 1 40 1 ∧
  (((T2.a 1 (ni 1)) ≤ s1 →
  Q (-1) T2) ∧ (¬ (T2.a 1 (ni 1)) ≤ s1 →
  wp_X1_laysClosed s1 T2 fun T4 =>
  wp_X1_firstSelf  T4 fun r7 T6 =>
  ((r7 = (-1) →
  k1 (s1 + 1) T6) ∧ (¬ r7 = (-1) →
  wp_X1_laysRules s1 T6 fun T9 =>
  wp_X1_addsInduced s1 T9 fun T11 =>
  wp_X1_laysRing r7 T11 fun T13 =>
  Q s1 T13))))) 0 T
theorem hd_X1_findsCircle : yX1_findsCircle.cls = RX1 ∧ yX1_findsCircle.cls ≠ "java/lang/invoke/MethodHandle" ∧ yX1_findsCircle.cls ≠ "java/lang/invoke/VarHandle" ∧ (parseMethodDescriptor yX1_findsCircle.desc).map (fun d => d.parameters.length) = some 0 := by decide +kernel
theorem ok_X1_findsCircle {l : Launch} {D : va_G} {s0 : S0} (hG : G0 D s0) {o : Nat}  {T : TS} {Q : Int32 → TS → Prop} (hw : wp_X1_findsCircle  T Q) : OKt l D s0 o yX1_findsCircle cX1_findsCircle 3 (some .int) 4 87 [vA (some o)] T (TI Q) := by
  refine t_met hG rfl rfl (L0 := [(0, vA (some o))]) rfl rfl ?_
  intro h K C
  unfold wp_X1_findsCircle at hw
  refine t_b C (pc' := 2) (L' := [(1, vI 0), (0, vA (some o))]) (st' := []) [(.iconst 0, 1), (.istore_n 1, 1)] ⟨dX1_findsCircle_0, dX1_findsCircle_1, rfl⟩ rfl ?_
  obtain ⟨I1, ⟨n1, hI1⟩, hB1⟩ := tlp.out hw
  refine t_sub C (L' := [(0, vA (some o)), (1, vI 0)]) [1, 0] rfl ?_
  have key1 : ∀ (n : Nat) (s1 : Int32) (T2 : TS), I1 n s1 T2 → K 2 [(0, vA (some o)), (1, vI s1)] [] T2 := by
    intro n
    induction n using Nat.strongRecOn with
    | ind n ih1 =>
      intro s1 T2 hI
      replace hw := hB1 n s1 T2 hI
      refine t_b C (pc' := 4) (L' := [(0, vA (some o)), (1, vI s1)]) (st' := [vA (some o), vI s1]) [(.iload_n 1, 1), (.aload_n 0, 1)] ⟨dX1_findsCircle_2, dX1_findsCircle_3, rfl⟩ rfl ?_
      refine t_gA C 201 1 7 dX1_findsCircle_4 rfl rfl rfl rfl rfl q2189 (fun _ _ _ => rfl) ?_
      refine t_b C (pc' := 8) (L' := [(0, vA (some o)), (1, vI s1)]) (st' := [vI 1, vA (some (o + 1 + 1)), vI s1]) [(.iconst 1, 1)] ⟨dX1_findsCircle_7, rfl⟩ rfl ?_
      refine t_iald C 9 dX1_findsCircle_8 rfl hw.1 ?_
      replace hw := hw.2
      refine t_icmp_ge C 53 12 dX1_findsCircle_9 rfl rfl (fun hc3 => ?_) (fun hc3 => ?_)
      · replace hw := hw.1 hc3
        refine t_b C (pc' := 54) (L' := [(0, vA (some o)), (1, vI s1)]) (st' := [vI (-1)]) [(.iconst (-1), 1)] ⟨dX1_findsCircle_53, rfl⟩ rfl ?_
        exact t_iret C dX1_findsCircle_54 ⟨_, rfl, hw⟩
      · replace hw := hw.2 hc3
        refine t_b C (pc' := 14) (L' := [(0, vA (some o)), (1, vI s1)]) (st' := [vI s1, vA (some o)]) [(.aload_n 0, 1), (.iload_n 1, 1)] ⟨dX1_findsCircle_12, dX1_findsCircle_13, rfl⟩ rfl ?_
        refine t_callVV C 17 [vI s1] [] dX1_findsCircle_14 rfl (ok_X1_laysClosed hG hw) q2562 q2564 qs94 q159 q2565 hd_X1_laysClosed ⟨rfl, rfl, rfl⟩ (fun T4 hw => ?_)
        refine t_b C (pc' := 18) (L' := [(0, vA (some o)), (1, vI s1)]) (st' := [vA (some o)]) [(.aload_n 0, 1)] ⟨dX1_findsCircle_17, rfl⟩ rfl ?_
        refine t_callVI C 21 [] [] dX1_findsCircle_18 rfl (ok_X1_firstSelf hG hw) q2677 q2679 qs115 q159 q2680 hd_X1_firstSelf ⟨rfl, rfl, rfl⟩ (fun r7 T6 hw => ?_)
        refine t_b C (pc' := 24) (L' := [(2, vI r7), (0, vA (some o)), (1, vI s1)]) (st' := [vI (-1), vI r7]) [(.istore_n 2, 1), (.iload_n 2, 1), (.iconst (-1), 1)] ⟨dX1_findsCircle_21, dX1_findsCircle_22, dX1_findsCircle_23, rfl⟩ rfl ?_
        refine t_icmp_ne C 30 27 dX1_findsCircle_24 rfl rfl (fun hc8 => ?_) (fun hc8 => ?_)
        · replace hw := hw.2 hc8
          refine t_b C (pc' := 32) (L' := [(2, vI r7), (0, vA (some o)), (1, vI s1)]) (st' := [vI s1, vA (some o)]) [(.aload_n 0, 1), (.iload_n 1, 1)] ⟨dX1_findsCircle_30, dX1_findsCircle_31, rfl⟩ rfl ?_
          refine t_callVV C 35 [vI s1] [] dX1_findsCircle_32 rfl (ok_X1_laysRules hG hw) q2566 q2568 qs95 q159 q2569 hd_X1_laysRules ⟨rfl, rfl, rfl⟩ (fun T9 hw => ?_)
          refine t_b C (pc' := 37) (L' := [(2, vI r7), (0, vA (some o)), (1, vI s1)]) (st' := [vI s1, vA (some o)]) [(.aload_n 0, 1), (.iload_n 1, 1)] ⟨dX1_findsCircle_35, dX1_findsCircle_36, rfl⟩ rfl ?_
          refine t_callVV C 40 [vI s1] [] dX1_findsCircle_37 rfl (ok_X1_addsInduced hG hw) q2574 q2576 qs97 q159 q2577 hd_X1_addsInduced ⟨rfl, rfl, rfl⟩ (fun T11 hw => ?_)
          refine t_b C (pc' := 42) (L' := [(2, vI r7), (0, vA (some o)), (1, vI s1)]) (st' := [vI r7, vA (some o)]) [(.aload_n 0, 1), (.iload_n 2, 1)] ⟨dX1_findsCircle_40, dX1_findsCircle_41, rfl⟩ rfl ?_
          refine t_callVV C 45 [vI r7] [] dX1_findsCircle_42 rfl (ok_X1_laysRing hG hw) q2681 q2683 qs116 q159 q2684 hd_X1_laysRing ⟨rfl, rfl, rfl⟩ (fun T13 hw => ?_)
          refine t_b C (pc' := 46) (L' := [(2, vI r7), (0, vA (some o)), (1, vI s1)]) (st' := [vI s1]) [(.iload_n 1, 1)] ⟨dX1_findsCircle_45, rfl⟩ rfl ?_
          exact t_iret C dX1_findsCircle_46 ⟨_, rfl, hw⟩
        · replace hw := hw.1 hc8
          refine t_goto C 47 dX1_findsCircle_27 rfl ?_
          refine t_b C (pc' := 50) (L' := [(1, vI (s1 + 1)), (2, vI r7), (0, vA (some o))]) (st' := []) [(.iinc 1 1, 3)] ⟨dX1_findsCircle_47, rfl⟩ rfl ?_
          refine t_goto C 2 dX1_findsCircle_50 rfl ?_
          refine t_sub C (L' := [(0, vA (some o)), (1, vI (s1 + 1))]) [2, 0] rfl ?_
          obtain ⟨m9, hm9, hw⟩ := hw
          exact ih1 m9 hm9 (s1 + 1) T6 hw
  exact key1 n1 0 T hI1
def wp_X1_circle (p0 : Int32) (T : TS) (Q : Int32 → TS → Prop) : Prop :=
  (((-1) ≤ p0 →
  (((T.s 209) = 0 →
  wp_X1_refuse 2 T fun r17 T16 =>
  Q r17 T16) ∧ (¬ (T.s 209) = 0 →
  wp_X1_findsCircle  T fun r4 T3 =>
  ((r4 = (-1) →
  wp_X1_refuse 7 T3 fun r15 T14 =>
  Q r15 T14) ∧ (¬ r4 = (-1) →
  ((p0 = (-1) →
  wp_X1_gives r4 T3 fun r13 T12 =>
  Q r13 T12) ∧ (¬ p0 = (-1) →
  (((T3.s 227) ≤ p0 →
  wp_X1_refuse 7 T3 fun r9 T8 =>
  Q r9 T8) ∧ (¬ (T3.s 227) ≤ p0 →
  tix 9 40 p0 ∧
  wp_X1_gives (T3.a 9 (ni p0)) T3 fun r11 T10 =>
  Q r11 T10))))))))) ∧ (¬ (-1) ≤ p0 →
  wp_X1_refuse 1 T fun r19 T18 =>
  Q r19 T18))
theorem hd_X1_circle : yX1_circle.cls = RX1 ∧ yX1_circle.cls ≠ "java/lang/invoke/MethodHandle" ∧ yX1_circle.cls ≠ "java/lang/invoke/VarHandle" ∧ (parseMethodDescriptor yX1_circle.desc).map (fun d => d.parameters.length) = some 1 := by decide +kernel
theorem ok_X1_circle {l : Launch} {D : va_G} {s0 : S0} (hG : G0 D s0) {o : Nat} {p0 : Int32} {T : TS} {Q : Int32 → TS → Prop} (hw : wp_X1_circle p0 T Q) : OKt l D s0 o yX1_circle cX1_circle 3 (some .int) 5 109 [vA (some o), vI p0] T (TI Q) := by
  refine t_met hG rfl rfl (L0 := [(0, vA (some o)), (1, vI p0)]) rfl rfl ?_
  intro h K C
  unfold wp_X1_circle at hw
  refine t_b C (pc' := 2) (L' := [(0, vA (some o)), (1, vI p0)]) (st' := [vI (-1), vI p0]) [(.iload_n 1, 1), (.iconst (-1), 1)] ⟨dX1_circle_0, dX1_circle_1, rfl⟩ rfl ?_
  refine t_icmp_ge C 11 5 dX1_circle_2 rfl rfl (fun hc1 => ?_) (fun hc1 => ?_)
  · replace hw := hw.1 hc1
    refine t_b C (pc' := 12) (L' := [(0, vA (some o)), (1, vI p0)]) (st' := [vA (some o)]) [(.aload_n 0, 1)] ⟨dX1_circle_11, rfl⟩ rfl ?_
    refine t_gI C 209 15 dX1_circle_12 rfl rfl rfl q2197 (fun _ _ _ => rfl) ?_
    refine t_if_ne C 24 18 dX1_circle_15 rfl rfl (fun hc2 => ?_) (fun hc2 => ?_)
    · replace hw := hw.2 hc2
      refine t_b C (pc' := 25) (L' := [(0, vA (some o)), (1, vI p0)]) (st' := [vA (some o)]) [(.aload_n 0, 1)] ⟨dX1_circle_24, rfl⟩ rfl ?_
      refine t_callVI C 28 [] [] dX1_circle_25 rfl (ok_X1_findsCircle hG hw) q2673 q2675 qs114 q159 q2676 hd_X1_findsCircle ⟨rfl, rfl, rfl⟩ (fun r4 T3 hw => ?_)
      refine t_b C (pc' := 31) (L' := [(2, vI r4), (0, vA (some o)), (1, vI p0)]) (st' := [vI (-1), vI r4]) [(.istore_n 2, 1), (.iload_n 2, 1), (.iconst (-1), 1)] ⟨dX1_circle_28, dX1_circle_29, dX1_circle_30, rfl⟩ rfl ?_
      refine t_icmp_ne C 41 34 dX1_circle_31 rfl rfl (fun hc5 => ?_) (fun hc5 => ?_)
      · replace hw := hw.2 hc5
        refine t_b C (pc' := 43) (L' := [(2, vI r4), (0, vA (some o)), (1, vI p0)]) (st' := [vI (-1), vI p0]) [(.iload_n 1, 1), (.iconst (-1), 1)] ⟨dX1_circle_41, dX1_circle_42, rfl⟩ rfl ?_
        refine t_icmp_ne C 52 46 dX1_circle_43 rfl rfl (fun hc6 => ?_) (fun hc6 => ?_)
        · replace hw := hw.2 hc6
          refine t_b C (pc' := 54) (L' := [(2, vI r4), (0, vA (some o)), (1, vI p0)]) (st' := [vA (some o), vI p0]) [(.iload_n 1, 1), (.aload_n 0, 1)] ⟨dX1_circle_52, dX1_circle_53, rfl⟩ rfl ?_
          refine t_gI C 227 57 dX1_circle_54 rfl rfl rfl q2215 (fun _ _ _ => rfl) ?_
          refine t_icmp_ge C 73 60 dX1_circle_57 rfl rfl (fun hc7 => ?_) (fun hc7 => ?_)
          · replace hw := hw.1 hc7
            refine t_b C (pc' := 76) (L' := [(2, vI r4), (0, vA (some o)), (1, vI p0)]) (st' := [vI 7, vA (some o)]) [(.aload_n 0, 1), (.bipush 7, 2)] ⟨dX1_circle_73, dX1_circle_74, rfl⟩ rfl ?_
            refine t_callVI C 79 [vI 7] [] dX1_circle_76 rfl (ok_X1_refuse hG hw) q2434 q2436 qs70 q159 q2437 hd_X1_refuse ⟨rfl, rfl, rfl⟩ (fun r9 T8 hw => ?_)
            exact t_iret C dX1_circle_79 ⟨_, rfl, hw⟩
          · replace hw := hw.2 hc7
            refine t_b C (pc' := 62) (L' := [(2, vI r4), (0, vA (some o)), (1, vI p0)]) (st' := [vA (some o), vA (some o)]) [(.aload_n 0, 1), (.aload_n 0, 1)] ⟨dX1_circle_60, dX1_circle_61, rfl⟩ rfl ?_
            refine t_gA C 226 9 65 dX1_circle_62 rfl rfl rfl rfl rfl q2214 (fun _ _ _ => rfl) ?_
            refine t_b C (pc' := 66) (L' := [(2, vI r4), (0, vA (some o)), (1, vI p0)]) (st' := [vI p0, vA (some (o + 1 + 9)), vA (some o)]) [(.iload_n 1, 1)] ⟨dX1_circle_65, rfl⟩ rfl ?_
            refine t_iald C 67 dX1_circle_66 rfl hw.1 ?_
            replace hw := hw.2
            refine t_callVI C 70 [vI (T3.a 9 (ni p0))] [] dX1_circle_67 rfl (ok_X1_gives hG hw) q2589 q2591 qs100 q159 q2592 hd_X1_gives ⟨rfl, rfl, rfl⟩ (fun r11 T10 hw => ?_)
            refine t_goto C 79 dX1_circle_70 rfl ?_
            exact t_iret C dX1_circle_79 ⟨_, rfl, hw⟩
        · replace hw := hw.1 hc6
          refine t_b C (pc' := 48) (L' := [(2, vI r4), (0, vA (some o)), (1, vI p0)]) (st' := [vI r4, vA (some o)]) [(.aload_n 0, 1), (.iload_n 2, 1)] ⟨dX1_circle_46, dX1_circle_47, rfl⟩ rfl ?_
          refine t_callVI C 51 [vI r4] [] dX1_circle_48 rfl (ok_X1_gives hG hw) q2589 q2591 qs100 q159 q2592 hd_X1_gives ⟨rfl, rfl, rfl⟩ (fun r13 T12 hw => ?_)
          exact t_iret C dX1_circle_51 ⟨_, rfl, hw⟩
      · replace hw := hw.1 hc5
        refine t_b C (pc' := 37) (L' := [(2, vI r4), (0, vA (some o)), (1, vI p0)]) (st' := [vI 7, vA (some o)]) [(.aload_n 0, 1), (.bipush 7, 2)] ⟨dX1_circle_34, dX1_circle_35, rfl⟩ rfl ?_
        refine t_callVI C 40 [vI 7] [] dX1_circle_37 rfl (ok_X1_refuse hG hw) q2434 q2436 qs70 q159 q2437 hd_X1_refuse ⟨rfl, rfl, rfl⟩ (fun r15 T14 hw => ?_)
        exact t_iret C dX1_circle_40 ⟨_, rfl, hw⟩
    · replace hw := hw.1 hc2
      refine t_b C (pc' := 20) (L' := [(0, vA (some o)), (1, vI p0)]) (st' := [vI 2, vA (some o)]) [(.aload_n 0, 1), (.iconst 2, 1)] ⟨dX1_circle_18, dX1_circle_19, rfl⟩ rfl ?_
      refine t_callVI C 23 [vI 2] [] dX1_circle_20 rfl (ok_X1_refuse hG hw) q2434 q2436 qs70 q159 q2437 hd_X1_refuse ⟨rfl, rfl, rfl⟩ (fun r17 T16 hw => ?_)
      exact t_iret C dX1_circle_23 ⟨_, rfl, hw⟩
  · replace hw := hw.2 hc1
    refine t_b C (pc' := 7) (L' := [(0, vA (some o)), (1, vI p0)]) (st' := [vI 1, vA (some o)]) [(.aload_n 0, 1), (.iconst 1, 1)] ⟨dX1_circle_5, dX1_circle_6, rfl⟩ rfl ?_
    refine t_callVI C 10 [vI 1] [] dX1_circle_7 rfl (ok_X1_refuse hG hw) q2434 q2436 qs70 q159 q2437 hd_X1_refuse ⟨rfl, rfl, rfl⟩ (fun r19 T18 hw => ?_)
    exact t_iret C dX1_circle_10 ⟨_, rfl, hw⟩
def wp_X1_codes (p0 : Int32) (p1 : Int32) (T : TS) (Q : TS → Prop) : Prop :=
  tix 2 40 3 ∧
  tix 2 40 (1616 + (T.a 2 (ni 3))) ∧
  ∀ T1, T1 = T.sa 2 (ni (1616 + (T.a 2 (ni 3)))) p0 →
  tix 2 40 3 ∧
  tix 2 40 (2716 + (T1.a 2 (ni 3))) ∧
  ∀ T2, T2 = T1.sa 2 (ni (2716 + (T1.a 2 (ni 3)))) p1 →
  tix 2 40 3 ∧
  tix 2 40 3 ∧
  ∀ T3, T3 = T2.sa 2 (ni 3) ((T2.a 2 (ni 3)) + 1) →
  Q T3
theorem hd_X1_codes : yX1_codes.cls = RX1 ∧ yX1_codes.cls ≠ "java/lang/invoke/MethodHandle" ∧ yX1_codes.cls ≠ "java/lang/invoke/VarHandle" ∧ (parseMethodDescriptor yX1_codes.desc).map (fun d => d.parameters.length) = some 2 := by decide +kernel
theorem ok_X1_codes {l : Launch} {D : va_G} {s0 : S0} (hG : G0 D s0) {o : Nat} {p0 : Int32} {p1 : Int32} {T : TS} {Q : TS → Prop} (hw : wp_X1_codes p0 p1 T Q) : OKt l D s0 o yX1_codes cX1_codes 3 none 0 0 [vA (some o), vI p0, vI p1] T (TV Q) := by
  refine t_met hG rfl rfl (L0 := [(0, vA (some o)), (1, vI p0), (2, vI p1)]) rfl rfl ?_
  intro h K C
  unfold wp_X1_codes at hw
  refine t_b C (pc' := 1) (L' := [(0, vA (some o)), (1, vI p0), (2, vI p1)]) (st' := [vA (some o)]) [(.aload_n 0, 1)] ⟨dX1_codes_0, rfl⟩ rfl ?_
  refine t_gA C 202 2 4 dX1_codes_1 rfl rfl rfl rfl rfl q2190 (fun _ _ _ => rfl) ?_
  refine t_b C (pc' := 8) (L' := [(0, vA (some o)), (1, vI p0), (2, vI p1)]) (st' := [vA (some o), vI 1616, vA (some (o + 1 + 2))]) [(.sipush 1616, 3), (.aload_n 0, 1)] ⟨dX1_codes_4, dX1_codes_7, rfl⟩ rfl ?_
  refine t_gA C 202 2 11 dX1_codes_8 rfl rfl rfl rfl rfl q2190 (fun _ _ _ => rfl) ?_
  refine t_b C (pc' := 12) (L' := [(0, vA (some o)), (1, vI p0), (2, vI p1)]) (st' := [vI 3, vA (some (o + 1 + 2)), vI 1616, vA (some (o + 1 + 2))]) [(.iconst 3, 1)] ⟨dX1_codes_11, rfl⟩ rfl ?_
  refine t_iald C 13 dX1_codes_12 rfl hw.1 ?_
  replace hw := hw.2
  refine t_b C (pc' := 15) (L' := [(0, vA (some o)), (1, vI p0), (2, vI p1)]) (st' := [vI p0, vI (1616 + (T.a 2 (ni 3))), vA (some (o + 1 + 2))]) [(.iadd, 1), (.iload_n 1, 1)] ⟨dX1_codes_13, dX1_codes_14, rfl⟩ rfl ?_
  refine t_iast C 16 dX1_codes_15 rfl hw.1 (fun T1 eT1 => ?_)
  replace hw := hw.2 T1 eT1
  refine t_b C (pc' := 17) (L' := [(0, vA (some o)), (1, vI p0), (2, vI p1)]) (st' := [vA (some o)]) [(.aload_n 0, 1)] ⟨dX1_codes_16, rfl⟩ rfl ?_
  refine t_gA C 202 2 20 dX1_codes_17 rfl rfl rfl rfl rfl q2190 (fun _ _ _ => rfl) ?_
  refine t_b C (pc' := 24) (L' := [(0, vA (some o)), (1, vI p0), (2, vI p1)]) (st' := [vA (some o), vI 2716, vA (some (o + 1 + 2))]) [(.sipush 2716, 3), (.aload_n 0, 1)] ⟨dX1_codes_20, dX1_codes_23, rfl⟩ rfl ?_
  refine t_gA C 202 2 27 dX1_codes_24 rfl rfl rfl rfl rfl q2190 (fun _ _ _ => rfl) ?_
  refine t_b C (pc' := 28) (L' := [(0, vA (some o)), (1, vI p0), (2, vI p1)]) (st' := [vI 3, vA (some (o + 1 + 2)), vI 2716, vA (some (o + 1 + 2))]) [(.iconst 3, 1)] ⟨dX1_codes_27, rfl⟩ rfl ?_
  refine t_iald C 29 dX1_codes_28 rfl hw.1 ?_
  replace hw := hw.2
  refine t_b C (pc' := 31) (L' := [(0, vA (some o)), (1, vI p0), (2, vI p1)]) (st' := [vI p1, vI (2716 + (T1.a 2 (ni 3))), vA (some (o + 1 + 2))]) [(.iadd, 1), (.iload_n 2, 1)] ⟨dX1_codes_29, dX1_codes_30, rfl⟩ rfl ?_
  refine t_iast C 32 dX1_codes_31 rfl hw.1 (fun T2 eT2 => ?_)
  replace hw := hw.2 T2 eT2
  refine t_b C (pc' := 33) (L' := [(0, vA (some o)), (1, vI p0), (2, vI p1)]) (st' := [vA (some o)]) [(.aload_n 0, 1)] ⟨dX1_codes_32, rfl⟩ rfl ?_
  refine t_gA C 202 2 36 dX1_codes_33 rfl rfl rfl rfl rfl q2190 (fun _ _ _ => rfl) ?_
  refine t_b C (pc' := 38) (L' := [(0, vA (some o)), (1, vI p0), (2, vI p1)]) (st' := [vI 3, vA (some (o + 1 + 2)), vI 3, vA (some (o + 1 + 2))]) [(.iconst 3, 1), (.dup2, 1)] ⟨dX1_codes_36, dX1_codes_37, rfl⟩ rfl ?_
  refine t_iald C 39 dX1_codes_38 rfl hw.1 ?_
  replace hw := hw.2
  refine t_b C (pc' := 41) (L' := [(0, vA (some o)), (1, vI p0), (2, vI p1)]) (st' := [vI ((T2.a 2 (ni 3)) + 1), vI 3, vA (some (o + 1 + 2))]) [(.iconst 1, 1), (.iadd, 1)] ⟨dX1_codes_39, dX1_codes_40, rfl⟩ rfl ?_
  refine t_iast C 42 dX1_codes_41 rfl hw.1 (fun T3 eT3 => ?_)
  replace hw := hw.2 T3 eT3
  exact t_vret C dX1_codes_42 ⟨rfl, hw⟩
def wp_X1_come (p0 : Int32) (T : TS) (Q : TS → Prop) : Prop :=
  tlp (σ := Int32) (fun s1 T2 k1 =>
  ((s1 < 0 →
  Q T2) ∧ (¬ s1 < 0 →
  tix 0 40 (T2.s 205) ∧
  ∀ T4, T4 = T2.sa 0 (ni (T2.s 205)) ((jushr p0 s1) &&& 255) →
  ∀ T5, T5 = T4.ss 205 ((T4.s 205) + 1) →
  k1 (s1 + (-8)) T5))) 24 T
theorem hd_X1_come : yX1_come.cls = RX1 ∧ yX1_come.cls ≠ "java/lang/invoke/MethodHandle" ∧ yX1_come.cls ≠ "java/lang/invoke/VarHandle" ∧ (parseMethodDescriptor yX1_come.desc).map (fun d => d.parameters.length) = some 1 := by decide +kernel
theorem ok_X1_come {l : Launch} {D : va_G} {s0 : S0} (hG : G0 D s0) {o : Nat} {p0 : Int32} {T : TS} {Q : TS → Prop} (hw : wp_X1_come p0 T Q) : OKt l D s0 o yX1_come cX1_come 3 none 0 0 [vA (some o), vI p0] T (TV Q) := by
  refine t_met hG rfl rfl (L0 := [(0, vA (some o)), (1, vI p0)]) rfl rfl ?_
  intro h K C
  unfold wp_X1_come at hw
  refine t_b C (pc' := 3) (L' := [(2, vI 24), (0, vA (some o)), (1, vI p0)]) (st' := []) [(.bipush 24, 2), (.istore_n 2, 1)] ⟨dX1_come_0, dX1_come_2, rfl⟩ rfl ?_
  obtain ⟨I1, ⟨n1, hI1⟩, hB1⟩ := tlp.out hw
  refine t_sub C (L' := [(0, vA (some o)), (1, vI p0), (2, vI 24)]) [1, 2, 0] rfl ?_
  have key1 : ∀ (n : Nat) (s1 : Int32) (T2 : TS), I1 n s1 T2 → K 3 [(0, vA (some o)), (1, vI p0), (2, vI s1)] [] T2 := by
    intro n
    induction n using Nat.strongRecOn with
    | ind n ih1 =>
      intro s1 T2 hI
      replace hw := hB1 n s1 T2 hI
      refine t_b C (pc' := 4) (L' := [(0, vA (some o)), (1, vI p0), (2, vI s1)]) (st' := [vI s1]) [(.iload_n 2, 1)] ⟨dX1_come_3, rfl⟩ rfl ?_
      refine t_if_lt C 39 7 dX1_come_4 rfl rfl (fun hc3 => ?_) (fun hc3 => ?_)
      · replace hw := hw.1 hc3
        exact t_vret C dX1_come_39 ⟨rfl, hw⟩
      · replace hw := hw.2 hc3
        refine t_b C (pc' := 8) (L' := [(0, vA (some o)), (1, vI p0), (2, vI s1)]) (st' := [vA (some o)]) [(.aload_n 0, 1)] ⟨dX1_come_7, rfl⟩ rfl ?_
        refine t_gA C 200 0 11 dX1_come_8 rfl rfl rfl rfl rfl q2188 (fun _ _ _ => rfl) ?_
        refine t_b C (pc' := 12) (L' := [(0, vA (some o)), (1, vI p0), (2, vI s1)]) (st' := [vA (some o), vA (some (o + 1 + 0))]) [(.aload_n 0, 1)] ⟨dX1_come_11, rfl⟩ rfl ?_
        refine t_gI C 205 15 dX1_come_12 rfl rfl rfl q2193 (fun _ _ _ => rfl) ?_
        refine t_b C (pc' := 22) (L' := [(0, vA (some o)), (1, vI p0), (2, vI s1)]) (st' := [vI ((jushr p0 s1) &&& 255), vI (T2.s 205), vA (some (o + 1 + 0))]) [(.iload_n 1, 1), (.iload_n 2, 1), (.iushr, 1), (.sipush 255, 3), (.iand, 1)] ⟨dX1_come_15, dX1_come_16, dX1_come_17, dX1_come_18, dX1_come_21, rfl⟩ rfl ?_
        refine t_iast C 23 dX1_come_22 rfl hw.1 (fun T4 eT4 => ?_)
        replace hw := hw.2 T4 eT4
        refine t_b C (pc' := 25) (L' := [(0, vA (some o)), (1, vI p0), (2, vI s1)]) (st' := [vA (some o), vA (some o)]) [(.aload_n 0, 1), (.dup, 1)] ⟨dX1_come_23, dX1_come_24, rfl⟩ rfl ?_
        refine t_gI C 205 28 dX1_come_25 rfl rfl rfl q2193 (fun _ _ _ => rfl) ?_
        refine t_b C (pc' := 30) (L' := [(0, vA (some o)), (1, vI p0), (2, vI s1)]) (st' := [vI ((T4.s 205) + 1), vA (some o)]) [(.iconst 1, 1), (.iadd, 1)] ⟨dX1_come_28, dX1_come_29, rfl⟩ rfl ?_
        refine t_pI C 205 33 dX1_come_30 rfl rfl rfl rfl q2193 (fun _ _ _ => rfl) rfl rfl (fun T5 eT5 => ?_)
        replace hw := hw T5 eT5
        refine t_b C (pc' := 36) (L' := [(2, vI (s1 + (-8))), (0, vA (some o)), (1, vI p0)]) (st' := []) [(.iinc 2 (-8), 3)] ⟨dX1_come_33, rfl⟩ rfl ?_
        refine t_goto C 3 dX1_come_36 rfl ?_
        refine t_sub C (L' := [(0, vA (some o)), (1, vI p0), (2, vI (s1 + (-8)))]) [1, 2, 0] rfl ?_
        obtain ⟨m9, hm9, hw⟩ := hw
        exact ih1 m9 hm9 (s1 + (-8)) T5 hw
  exact key1 n1 24 T hI1
def wp_X1_isOf (p0 : Int32) (p1 : Int32) (T : TS) (Q : Int32 → TS → Prop) : Prop :=
  tix 36 42 p0 ∧
  (((T.a 36 (ni p0)) = 0 →
  Q 0 T) ∧ (¬ (T.a 36 (ni p0)) = 0 →
  ((p0 = p1 →
  Q 1 T) ∧ (¬ p0 = p1 →
  tix 29 40 p1 ∧
  (((T.a 29 (ni p1)) = (-1) →
  Q 0 T) ∧ (¬ (T.a 29 (ni p1)) = (-1) →
  tix 29 40 p0 ∧
  tix 29 40 p1 ∧
  ∀ m4 : Int32, m4 = (if (T.a 29 (ni p0)) = (T.a 29 (ni p1)) then 1 else 0) →
  bz m4 ∧ Q m4 T))))))
theorem hd_X1_isOf : yX1_isOf.cls = RX1 ∧ yX1_isOf.cls ≠ "java/lang/invoke/MethodHandle" ∧ yX1_isOf.cls ≠ "java/lang/invoke/VarHandle" ∧ (parseMethodDescriptor yX1_isOf.desc).map (fun d => d.parameters.length) = some 2 := by decide +kernel
theorem ok_X1_isOf {l : Launch} {D : va_G} {s0 : S0} (hG : G0 D s0) {o : Nat} {p0 : Int32} {p1 : Int32} {T : TS} {Q : Int32 → TS → Prop} (hw : wp_X1_isOf p0 p1 T Q) : OKt l D s0 o yX1_isOf cX1_isOf 3 (some .boolean) 0 0 [vA (some o), vI p0, vI p1] T (TI Q) := by
  refine t_met hG rfl rfl (L0 := [(0, vA (some o)), (1, vI p0), (2, vI p1)]) rfl rfl ?_
  intro h K C
  unfold wp_X1_isOf at hw
  refine t_b C (pc' := 1) (L' := [(0, vA (some o)), (1, vI p0), (2, vI p1)]) (st' := [vA (some o)]) [(.aload_n 0, 1)] ⟨dX1_isOf_0, rfl⟩ rfl ?_
  refine t_gA C 266 36 4 dX1_isOf_1 rfl rfl rfl rfl rfl q2254 (fun _ _ _ => rfl) ?_
  refine t_b C (pc' := 5) (L' := [(0, vA (some o)), (1, vI p0), (2, vI p1)]) (st' := [vI p0, vA (some (o + 1 + 36))]) [(.iload_n 1, 1)] ⟨dX1_isOf_4, rfl⟩ rfl ?_
  refine t_zald C 6 dX1_isOf_5 rfl hw.1 ?_
  replace hw := hw.2
  refine t_if_eq C 43 9 dX1_isOf_6 rfl rfl (fun hc1 => ?_) (fun hc1 => ?_)
  · replace hw := hw.1 hc1
    refine t_b C (pc' := 44) (L' := [(0, vA (some o)), (1, vI p0), (2, vI p1)]) (st' := [vI 0]) [(.iconst 0, 1)] ⟨dX1_isOf_43, rfl⟩ rfl ?_
    exact t_zret C dX1_isOf_44 rfl ⟨_, rfl, hw⟩
  · replace hw := hw.2 hc1
    refine t_b C (pc' := 11) (L' := [(0, vA (some o)), (1, vI p0), (2, vI p1)]) (st' := [vI p1, vI p0]) [(.iload_n 1, 1), (.iload_n 2, 1)] ⟨dX1_isOf_9, dX1_isOf_10, rfl⟩ rfl ?_
    refine t_icmp_eq C 39 14 dX1_isOf_11 rfl rfl (fun hc2 => ?_) (fun hc2 => ?_)
    · replace hw := hw.1 hc2
      refine t_b C (pc' := 40) (L' := [(0, vA (some o)), (1, vI p0), (2, vI p1)]) (st' := [vI 1]) [(.iconst 1, 1)] ⟨dX1_isOf_39, rfl⟩ rfl ?_
      refine t_goto C 44 dX1_isOf_40 rfl ?_
      exact t_zret C dX1_isOf_44 rfl ⟨_, rfl, hw⟩
    · replace hw := hw.2 hc2
      refine t_b C (pc' := 15) (L' := [(0, vA (some o)), (1, vI p0), (2, vI p1)]) (st' := [vA (some o)]) [(.aload_n 0, 1)] ⟨dX1_isOf_14, rfl⟩ rfl ?_
      refine t_gA C 259 29 18 dX1_isOf_15 rfl rfl rfl rfl rfl q2247 (fun _ _ _ => rfl) ?_
      refine t_b C (pc' := 19) (L' := [(0, vA (some o)), (1, vI p0), (2, vI p1)]) (st' := [vI p1, vA (some (o + 1 + 29))]) [(.iload_n 2, 1)] ⟨dX1_isOf_18, rfl⟩ rfl ?_
      refine t_iald C 20 dX1_isOf_19 rfl hw.1 ?_
      replace hw := hw.2
      refine t_b C (pc' := 21) (L' := [(0, vA (some o)), (1, vI p0), (2, vI p1)]) (st' := [vI (-1), vI (T.a 29 (ni p1))]) [(.iconst (-1), 1)] ⟨dX1_isOf_20, rfl⟩ rfl ?_
      refine t_icmp_eq C 43 24 dX1_isOf_21 rfl rfl (fun hc3 => ?_) (fun hc3 => ?_)
      · replace hw := hw.1 hc3
        refine t_b C (pc' := 44) (L' := [(0, vA (some o)), (1, vI p0), (2, vI p1)]) (st' := [vI 0]) [(.iconst 0, 1)] ⟨dX1_isOf_43, rfl⟩ rfl ?_
        exact t_zret C dX1_isOf_44 rfl ⟨_, rfl, hw⟩
      · replace hw := hw.2 hc3
        refine t_b C (pc' := 25) (L' := [(0, vA (some o)), (1, vI p0), (2, vI p1)]) (st' := [vA (some o)]) [(.aload_n 0, 1)] ⟨dX1_isOf_24, rfl⟩ rfl ?_
        refine t_gA C 259 29 28 dX1_isOf_25 rfl rfl rfl rfl rfl q2247 (fun _ _ _ => rfl) ?_
        refine t_b C (pc' := 29) (L' := [(0, vA (some o)), (1, vI p0), (2, vI p1)]) (st' := [vI p0, vA (some (o + 1 + 29))]) [(.iload_n 1, 1)] ⟨dX1_isOf_28, rfl⟩ rfl ?_
        refine t_iald C 30 dX1_isOf_29 rfl hw.1 ?_
        replace hw := hw.2
        refine t_b C (pc' := 31) (L' := [(0, vA (some o)), (1, vI p0), (2, vI p1)]) (st' := [vA (some o), vI (T.a 29 (ni p0))]) [(.aload_n 0, 1)] ⟨dX1_isOf_30, rfl⟩ rfl ?_
        refine t_gA C 259 29 34 dX1_isOf_31 rfl rfl rfl rfl rfl q2247 (fun _ _ _ => rfl) ?_
        refine t_b C (pc' := 35) (L' := [(0, vA (some o)), (1, vI p0), (2, vI p1)]) (st' := [vI p1, vA (some (o + 1 + 29)), vI (T.a 29 (ni p0))]) [(.iload_n 2, 1)] ⟨dX1_isOf_34, rfl⟩ rfl ?_
        refine t_iald C 36 dX1_isOf_35 rfl hw.1 ?_
        replace hw := hw.2
        have kj5 : ∀ (m4 : Int32), m4 = (if (T.a 29 (ni p0)) = (T.a 29 (ni p1)) then 1 else 0) → K 44 [] [vI m4] T := by
          intro m4 em4
          replace hw := hw m4 em4
          exact t_zret C dX1_isOf_44 (bz_n hw.1) ⟨_, rfl, hw.2⟩
        refine t_icmp_ne C 43 39 dX1_isOf_36 rfl rfl (fun hc6 => ?_) (fun hc6 => ?_)
        · refine t_b C (pc' := 44) (L' := [(0, vA (some o)), (1, vI p0), (2, vI p1)]) (st' := [vI 0]) [(.iconst 0, 1)] ⟨dX1_isOf_43, rfl⟩ rfl ?_
          refine t_sub C (L' := []) [] rfl ?_
          exact kj5 _ ((if_neg hc6).symm)
        · refine t_b C (pc' := 40) (L' := [(0, vA (some o)), (1, vI p0), (2, vI p1)]) (st' := [vI 1]) [(.iconst 1, 1)] ⟨dX1_isOf_39, rfl⟩ rfl ?_
          refine t_goto C 44 dX1_isOf_40 rfl ?_
          refine t_sub C (L' := []) [] rfl ?_
          exact kj5 _ ((if_pos hc6).symm)
def wp_X1_hangsOnChanged (p0 : Int32) (T : TS) (Q : Int32 → TS → Prop) : Prop :=
  tlp (σ := Int32) (fun s1 T2 k1 =>
  (((8 * (T2.s 250)) ≤ s1 →
  Q 0 T2) ∧ (¬ (8 * (T2.s 250)) ≤ s1 →
  wp_X1_bit 34 p0 s1 T2 fun r5 T4 =>
  ((r5 = 0 →
  k1 (s1 + 1) T4) ∧ (¬ r5 = 0 →
  tix 41 42 s1 ∧
  (((T4.a 41 (ni s1)) = 0 →
  k1 (s1 + 1) T4) ∧ (¬ (T4.a 41 (ni s1)) = 0 →
  Q 1 T4))))))) 0 T
theorem hd_X1_hangsOnChanged : yX1_hangsOnChanged.cls = RX1 ∧ yX1_hangsOnChanged.cls ≠ "java/lang/invoke/MethodHandle" ∧ yX1_hangsOnChanged.cls ≠ "java/lang/invoke/VarHandle" ∧ (parseMethodDescriptor yX1_hangsOnChanged.desc).map (fun d => d.parameters.length) = some 1 := by decide +kernel
theorem ok_X1_hangsOnChanged {l : Launch} {D : va_G} {s0 : S0} (hG : G0 D s0) {o : Nat} {p0 : Int32} {T : TS} {Q : Int32 → TS → Prop} (hw : wp_X1_hangsOnChanged p0 T Q) : OKt l D s0 o yX1_hangsOnChanged cX1_hangsOnChanged 3 (some .boolean) 1 22 [vA (some o), vI p0] T (TI Q) := by
  refine t_met hG rfl rfl (L0 := [(0, vA (some o)), (1, vI p0)]) rfl rfl ?_
  intro h K C
  unfold wp_X1_hangsOnChanged at hw
  refine t_b C (pc' := 2) (L' := [(2, vI 0), (0, vA (some o)), (1, vI p0)]) (st' := []) [(.iconst 0, 1), (.istore_n 2, 1)] ⟨dX1_hangsOnChanged_0, dX1_hangsOnChanged_1, rfl⟩ rfl ?_
  obtain ⟨I1, ⟨n1, hI1⟩, hB1⟩ := tlp.out hw
  refine t_sub C (L' := [(0, vA (some o)), (1, vI p0), (2, vI 0)]) [1, 2, 0] rfl ?_
  have key1 : ∀ (n : Nat) (s1 : Int32) (T2 : TS), I1 n s1 T2 → K 2 [(0, vA (some o)), (1, vI p0), (2, vI s1)] [] T2 := by
    intro n
    induction n using Nat.strongRecOn with
    | ind n ih1 =>
      intro s1 T2 hI
      replace hw := hB1 n s1 T2 hI
      refine t_b C (pc' := 6) (L' := [(0, vA (some o)), (1, vI p0), (2, vI s1)]) (st' := [vA (some o), vI 8, vI s1]) [(.iload_n 2, 1), (.bipush 8, 2), (.aload_n 0, 1)] ⟨dX1_hangsOnChanged_2, dX1_hangsOnChanged_3, dX1_hangsOnChanged_5, rfl⟩ rfl ?_
      refine t_gI C 250 9 dX1_hangsOnChanged_6 rfl rfl rfl q2238 (fun _ _ _ => rfl) ?_
      refine t_b C (pc' := 10) (L' := [(0, vA (some o)), (1, vI p0), (2, vI s1)]) (st' := [vI (8 * (T2.s 250)), vI s1]) [(.imul, 1)] ⟨dX1_hangsOnChanged_9, rfl⟩ rfl ?_
      refine t_icmp_ge C 42 13 dX1_hangsOnChanged_10 rfl rfl (fun hc3 => ?_) (fun hc3 => ?_)
      · replace hw := hw.1 hc3
        refine t_b C (pc' := 43) (L' := [(0, vA (some o)), (1, vI p0), (2, vI s1)]) (st' := [vI 0]) [(.iconst 0, 1)] ⟨dX1_hangsOnChanged_42, rfl⟩ rfl ?_
        exact t_zret C dX1_hangsOnChanged_43 rfl ⟨_, rfl, hw⟩
      · replace hw := hw.2 hc3
        refine t_b C (pc' := 14) (L' := [(0, vA (some o)), (1, vI p0), (2, vI s1)]) (st' := [vA (some o)]) [(.aload_n 0, 1)] ⟨dX1_hangsOnChanged_13, rfl⟩ rfl ?_
        refine t_gA C 264 34 17 dX1_hangsOnChanged_14 rfl rfl rfl rfl rfl q2252 (fun _ _ _ => rfl) ?_
        refine t_b C (pc' := 19) (L' := [(0, vA (some o)), (1, vI p0), (2, vI s1)]) (st' := [vI s1, vI p0, vA (some (o + 1 + 34))]) [(.iload_n 1, 1), (.iload_n 2, 1)] ⟨dX1_hangsOnChanged_17, dX1_hangsOnChanged_18, rfl⟩ rfl ?_
        refine t_callSI C 22 [vA (some (o + 1 + 34)), vI p0, vI s1] [] dX1_hangsOnChanged_19 rfl (ok_X1_bit hG hw) q2806 q2807 q159 q2808 hd_X1_bit ⟨rfl, rfl, rfl⟩ (fun r5 T4 hw => ?_)
        refine t_if_eq C 36 25 dX1_hangsOnChanged_22 rfl rfl (fun hc6 => ?_) (fun hc6 => ?_)
        · replace hw := hw.1 hc6
          refine t_b C (pc' := 39) (L' := [(2, vI (s1 + 1)), (0, vA (some o)), (1, vI p0)]) (st' := []) [(.iinc 2 1, 3)] ⟨dX1_hangsOnChanged_36, rfl⟩ rfl ?_
          refine t_goto C 2 dX1_hangsOnChanged_39 rfl ?_
          refine t_sub C (L' := [(0, vA (some o)), (1, vI p0), (2, vI (s1 + 1))]) [1, 2, 0] rfl ?_
          obtain ⟨m9, hm9, hw⟩ := hw
          exact ih1 m9 hm9 (s1 + 1) T4 hw
        · replace hw := hw.2 hc6
          refine t_b C (pc' := 26) (L' := [(0, vA (some o)), (1, vI p0), (2, vI s1)]) (st' := [vA (some o)]) [(.aload_n 0, 1)] ⟨dX1_hangsOnChanged_25, rfl⟩ rfl ?_
          refine t_gA C 271 41 29 dX1_hangsOnChanged_26 rfl rfl rfl rfl rfl q2259 (fun _ _ _ => rfl) ?_
          refine t_b C (pc' := 30) (L' := [(0, vA (some o)), (1, vI p0), (2, vI s1)]) (st' := [vI s1, vA (some (o + 1 + 41))]) [(.iload_n 2, 1)] ⟨dX1_hangsOnChanged_29, rfl⟩ rfl ?_
          refine t_zald C 31 dX1_hangsOnChanged_30 rfl hw.1 ?_
          replace hw := hw.2
          refine t_if_eq C 36 34 dX1_hangsOnChanged_31 rfl rfl (fun hc7 => ?_) (fun hc7 => ?_)
          · replace hw := hw.1 hc7
            refine t_b C (pc' := 39) (L' := [(2, vI (s1 + 1)), (0, vA (some o)), (1, vI p0)]) (st' := []) [(.iinc 2 1, 3)] ⟨dX1_hangsOnChanged_36, rfl⟩ rfl ?_
            refine t_goto C 2 dX1_hangsOnChanged_39 rfl ?_
            refine t_sub C (L' := [(0, vA (some o)), (1, vI p0), (2, vI (s1 + 1))]) [1, 2, 0] rfl ?_
            obtain ⟨m9, hm9, hw⟩ := hw
            exact ih1 m9 hm9 (s1 + 1) T4 hw
          · replace hw := hw.2 hc7
            refine t_b C (pc' := 35) (L' := [(0, vA (some o)), (1, vI p0), (2, vI s1)]) (st' := [vI 1]) [(.iconst 1, 1)] ⟨dX1_hangsOnChanged_34, rfl⟩ rfl ?_
            exact t_zret C dX1_hangsOnChanged_35 rfl ⟨_, rfl, hw⟩
  exact key1 n1 0 T hI1
def wp_X1_isTouched (p0 : Int32) (T : TS) (Q : Int32 → TS → Prop) : Prop :=
  tix 39 42 p0 ∧
  (((T.a 39 (ni p0)) = 0 →
  tix 40 42 p0 ∧
  (((T.a 40 (ni p0)) = 0 →
  wp_X1_hangsOnChanged p0 T fun r4 T3 =>
  ∀ m5 : Int32, m5 = (if r4 = 0 then 0 else 1) →
  bz m5 ∧ Q m5 T3) ∧ (¬ (T.a 40 (ni p0)) = 0 →
  Q 1 T))) ∧ (¬ (T.a 39 (ni p0)) = 0 →
  Q 1 T))
theorem hd_X1_isTouched : yX1_isTouched.cls = RX1 ∧ yX1_isTouched.cls ≠ "java/lang/invoke/MethodHandle" ∧ yX1_isTouched.cls ≠ "java/lang/invoke/VarHandle" ∧ (parseMethodDescriptor yX1_isTouched.desc).map (fun d => d.parameters.length) = some 1 := by decide +kernel
theorem ok_X1_isTouched {l : Launch} {D : va_G} {s0 : S0} (hG : G0 D s0) {o : Nat} {p0 : Int32} {T : TS} {Q : Int32 → TS → Prop} (hw : wp_X1_isTouched p0 T Q) : OKt l D s0 o yX1_isTouched cX1_isTouched 2 (some .boolean) 2 44 [vA (some o), vI p0] T (TI Q) := by
  refine t_met hG rfl rfl (L0 := [(0, vA (some o)), (1, vI p0)]) rfl rfl ?_
  intro h K C
  unfold wp_X1_isTouched at hw
  refine t_b C (pc' := 1) (L' := [(0, vA (some o)), (1, vI p0)]) (st' := [vA (some o)]) [(.aload_n 0, 1)] ⟨dX1_isTouched_0, rfl⟩ rfl ?_
  refine t_gA C 269 39 4 dX1_isTouched_1 rfl rfl rfl rfl rfl q2257 (fun _ _ _ => rfl) ?_
  refine t_b C (pc' := 5) (L' := [(0, vA (some o)), (1, vI p0)]) (st' := [vI p0, vA (some (o + 1 + 39))]) [(.iload_n 1, 1)] ⟨dX1_isTouched_4, rfl⟩ rfl ?_
  refine t_zald C 6 dX1_isTouched_5 rfl hw.1 ?_
  replace hw := hw.2
  refine t_if_ne C 26 9 dX1_isTouched_6 rfl rfl (fun hc1 => ?_) (fun hc1 => ?_)
  · replace hw := hw.2 hc1
    refine t_b C (pc' := 27) (L' := [(0, vA (some o)), (1, vI p0)]) (st' := [vI 1]) [(.iconst 1, 1)] ⟨dX1_isTouched_26, rfl⟩ rfl ?_
    refine t_goto C 31 dX1_isTouched_27 rfl ?_
    exact t_zret C dX1_isTouched_31 rfl ⟨_, rfl, hw⟩
  · replace hw := hw.1 hc1
    refine t_b C (pc' := 10) (L' := [(0, vA (some o)), (1, vI p0)]) (st' := [vA (some o)]) [(.aload_n 0, 1)] ⟨dX1_isTouched_9, rfl⟩ rfl ?_
    refine t_gA C 270 40 13 dX1_isTouched_10 rfl rfl rfl rfl rfl q2258 (fun _ _ _ => rfl) ?_
    refine t_b C (pc' := 14) (L' := [(0, vA (some o)), (1, vI p0)]) (st' := [vI p0, vA (some (o + 1 + 40))]) [(.iload_n 1, 1)] ⟨dX1_isTouched_13, rfl⟩ rfl ?_
    refine t_zald C 15 dX1_isTouched_14 rfl hw.1 ?_
    replace hw := hw.2
    refine t_if_ne C 26 18 dX1_isTouched_15 rfl rfl (fun hc2 => ?_) (fun hc2 => ?_)
    · replace hw := hw.2 hc2
      refine t_b C (pc' := 27) (L' := [(0, vA (some o)), (1, vI p0)]) (st' := [vI 1]) [(.iconst 1, 1)] ⟨dX1_isTouched_26, rfl⟩ rfl ?_
      refine t_goto C 31 dX1_isTouched_27 rfl ?_
      exact t_zret C dX1_isTouched_31 rfl ⟨_, rfl, hw⟩
    · replace hw := hw.1 hc2
      refine t_b C (pc' := 20) (L' := [(0, vA (some o)), (1, vI p0)]) (st' := [vI p0, vA (some o)]) [(.aload_n 0, 1), (.iload_n 1, 1)] ⟨dX1_isTouched_18, dX1_isTouched_19, rfl⟩ rfl ?_
      refine t_callVI C 23 [vI p0] [] dX1_isTouched_20 rfl (ok_X1_hangsOnChanged hG hw) q2893 q2895 qs154 q159 q2896 hd_X1_hangsOnChanged ⟨rfl, rfl, rfl⟩ (fun r4 T3 hw => ?_)
      have kj6 : ∀ (m5 : Int32), m5 = (if r4 = 0 then 0 else 1) → K 31 [] [vI m5] T3 := by
        intro m5 em5
        replace hw := hw m5 em5
        exact t_zret C dX1_isTouched_31 (bz_n hw.1) ⟨_, rfl, hw.2⟩
      refine t_if_eq C 30 26 dX1_isTouched_23 rfl rfl (fun hc7 => ?_) (fun hc7 => ?_)
      · refine t_b C (pc' := 31) (L' := [(0, vA (some o)), (1, vI p0)]) (st' := [vI 0]) [(.iconst 0, 1)] ⟨dX1_isTouched_30, rfl⟩ rfl ?_
        refine t_sub C (L' := []) [] rfl ?_
        exact kj6 _ ((if_pos hc7).symm)
      · refine t_b C (pc' := 27) (L' := [(0, vA (some o)), (1, vI p0)]) (st' := [vI 1]) [(.iconst 1, 1)] ⟨dX1_isTouched_26, rfl⟩ rfl ?_
        refine t_goto C 31 dX1_isTouched_27 rfl ?_
        refine t_sub C (L' := []) [] rfl ?_
        exact kj6 _ ((if_neg hc7).symm)
def wp_X1_isReady (p0 : Int32) (T : TS) (Q : Int32 → TS → Prop) : Prop :=
  tlp (σ := Int32) (fun s1 T2 k1 =>
  (((8 * (T2.s 250)) ≤ s1 →
  Q 1 T2) ∧ (¬ (8 * (T2.s 250)) ≤ s1 →
  wp_X1_bit 34 p0 s1 T2 fun r5 T4 =>
  ((r5 = 0 →
  k1 (s1 + 1) T4) ∧ (¬ r5 = 0 →
  tix 38 42 s1 ∧
  (((T4.a 38 (ni s1)) = 0 →
  tix 29 40 p0 ∧
  (((T4.a 29 (ni p0)) = (-1) →
  Q 0 T4) ∧ (¬ (T4.a 29 (ni p0)) = (-1) →
  tix 29 40 s1 ∧
  tix 29 40 p0 ∧
  (((T4.a 29 (ni s1)) = (T4.a 29 (ni p0)) →
  k1 (s1 + 1) T4) ∧ (¬ (T4.a 29 (ni s1)) = (T4.a 29 (ni p0)) →
  Q 0 T4))))) ∧ (¬ (T4.a 38 (ni s1)) = 0 →
  k1 (s1 + 1) T4))))))) 0 T
theorem hd_X1_isReady : yX1_isReady.cls = RX1 ∧ yX1_isReady.cls ≠ "java/lang/invoke/MethodHandle" ∧ yX1_isReady.cls ≠ "java/lang/invoke/VarHandle" ∧ (parseMethodDescriptor yX1_isReady.desc).map (fun d => d.parameters.length) = some 1 := by decide +kernel
theorem ok_X1_isReady {l : Launch} {D : va_G} {s0 : S0} (hG : G0 D s0) {o : Nat} {p0 : Int32} {T : TS} {Q : Int32 → TS → Prop} (hw : wp_X1_isReady p0 T Q) : OKt l D s0 o yX1_isReady cX1_isReady 3 (some .boolean) 1 22 [vA (some o), vI p0] T (TI Q) := by
  refine t_met hG rfl rfl (L0 := [(0, vA (some o)), (1, vI p0)]) rfl rfl ?_
  intro h K C
  unfold wp_X1_isReady at hw
  refine t_b C (pc' := 2) (L' := [(2, vI 0), (0, vA (some o)), (1, vI p0)]) (st' := []) [(.iconst 0, 1), (.istore_n 2, 1)] ⟨dX1_isReady_0, dX1_isReady_1, rfl⟩ rfl ?_
  obtain ⟨I1, ⟨n1, hI1⟩, hB1⟩ := tlp.out hw
  refine t_sub C (L' := [(0, vA (some o)), (1, vI p0), (2, vI 0)]) [1, 2, 0] rfl ?_
  have key1 : ∀ (n : Nat) (s1 : Int32) (T2 : TS), I1 n s1 T2 → K 2 [(0, vA (some o)), (1, vI p0), (2, vI s1)] [] T2 := by
    intro n
    induction n using Nat.strongRecOn with
    | ind n ih1 =>
      intro s1 T2 hI
      replace hw := hB1 n s1 T2 hI
      refine t_b C (pc' := 6) (L' := [(0, vA (some o)), (1, vI p0), (2, vI s1)]) (st' := [vA (some o), vI 8, vI s1]) [(.iload_n 2, 1), (.bipush 8, 2), (.aload_n 0, 1)] ⟨dX1_isReady_2, dX1_isReady_3, dX1_isReady_5, rfl⟩ rfl ?_
      refine t_gI C 250 9 dX1_isReady_6 rfl rfl rfl q2238 (fun _ _ _ => rfl) ?_
      refine t_b C (pc' := 10) (L' := [(0, vA (some o)), (1, vI p0), (2, vI s1)]) (st' := [vI (8 * (T2.s 250)), vI s1]) [(.imul, 1)] ⟨dX1_isReady_9, rfl⟩ rfl ?_
      refine t_icmp_ge C 67 13 dX1_isReady_10 rfl rfl (fun hc3 => ?_) (fun hc3 => ?_)
      · replace hw := hw.1 hc3
        refine t_b C (pc' := 68) (L' := [(0, vA (some o)), (1, vI p0), (2, vI s1)]) (st' := [vI 1]) [(.iconst 1, 1)] ⟨dX1_isReady_67, rfl⟩ rfl ?_
        exact t_zret C dX1_isReady_68 rfl ⟨_, rfl, hw⟩
      · replace hw := hw.2 hc3
        refine t_b C (pc' := 14) (L' := [(0, vA (some o)), (1, vI p0), (2, vI s1)]) (st' := [vA (some o)]) [(.aload_n 0, 1)] ⟨dX1_isReady_13, rfl⟩ rfl ?_
        refine t_gA C 264 34 17 dX1_isReady_14 rfl rfl rfl rfl rfl q2252 (fun _ _ _ => rfl) ?_
        refine t_b C (pc' := 19) (L' := [(0, vA (some o)), (1, vI p0), (2, vI s1)]) (st' := [vI s1, vI p0, vA (some (o + 1 + 34))]) [(.iload_n 1, 1), (.iload_n 2, 1)] ⟨dX1_isReady_17, dX1_isReady_18, rfl⟩ rfl ?_
        refine t_callSI C 22 [vA (some (o + 1 + 34)), vI p0, vI s1] [] dX1_isReady_19 rfl (ok_X1_bit hG hw) q2806 q2807 q159 q2808 hd_X1_bit ⟨rfl, rfl, rfl⟩ (fun r5 T4 hw => ?_)
        refine t_if_eq C 61 25 dX1_isReady_22 rfl rfl (fun hc6 => ?_) (fun hc6 => ?_)
        · replace hw := hw.1 hc6
          refine t_b C (pc' := 64) (L' := [(2, vI (s1 + 1)), (0, vA (some o)), (1, vI p0)]) (st' := []) [(.iinc 2 1, 3)] ⟨dX1_isReady_61, rfl⟩ rfl ?_
          refine t_goto C 2 dX1_isReady_64 rfl ?_
          refine t_sub C (L' := [(0, vA (some o)), (1, vI p0), (2, vI (s1 + 1))]) [1, 2, 0] rfl ?_
          obtain ⟨m9, hm9, hw⟩ := hw
          exact ih1 m9 hm9 (s1 + 1) T4 hw
        · replace hw := hw.2 hc6
          refine t_b C (pc' := 26) (L' := [(0, vA (some o)), (1, vI p0), (2, vI s1)]) (st' := [vA (some o)]) [(.aload_n 0, 1)] ⟨dX1_isReady_25, rfl⟩ rfl ?_
          refine t_gA C 268 38 29 dX1_isReady_26 rfl rfl rfl rfl rfl q2256 (fun _ _ _ => rfl) ?_
          refine t_b C (pc' := 30) (L' := [(0, vA (some o)), (1, vI p0), (2, vI s1)]) (st' := [vI s1, vA (some (o + 1 + 38))]) [(.iload_n 2, 1)] ⟨dX1_isReady_29, rfl⟩ rfl ?_
          refine t_zald C 31 dX1_isReady_30 rfl hw.1 ?_
          replace hw := hw.2
          refine t_if_ne C 61 34 dX1_isReady_31 rfl rfl (fun hc7 => ?_) (fun hc7 => ?_)
          · replace hw := hw.2 hc7
            refine t_b C (pc' := 64) (L' := [(2, vI (s1 + 1)), (0, vA (some o)), (1, vI p0)]) (st' := []) [(.iinc 2 1, 3)] ⟨dX1_isReady_61, rfl⟩ rfl ?_
            refine t_goto C 2 dX1_isReady_64 rfl ?_
            refine t_sub C (L' := [(0, vA (some o)), (1, vI p0), (2, vI (s1 + 1))]) [1, 2, 0] rfl ?_
            obtain ⟨m9, hm9, hw⟩ := hw
            exact ih1 m9 hm9 (s1 + 1) T4 hw
          · replace hw := hw.1 hc7
            refine t_b C (pc' := 35) (L' := [(0, vA (some o)), (1, vI p0), (2, vI s1)]) (st' := [vA (some o)]) [(.aload_n 0, 1)] ⟨dX1_isReady_34, rfl⟩ rfl ?_
            refine t_gA C 259 29 38 dX1_isReady_35 rfl rfl rfl rfl rfl q2247 (fun _ _ _ => rfl) ?_
            refine t_b C (pc' := 39) (L' := [(0, vA (some o)), (1, vI p0), (2, vI s1)]) (st' := [vI p0, vA (some (o + 1 + 29))]) [(.iload_n 1, 1)] ⟨dX1_isReady_38, rfl⟩ rfl ?_
            refine t_iald C 40 dX1_isReady_39 rfl hw.1 ?_
            replace hw := hw.2
            refine t_b C (pc' := 41) (L' := [(0, vA (some o)), (1, vI p0), (2, vI s1)]) (st' := [vI (-1), vI (T4.a 29 (ni p0))]) [(.iconst (-1), 1)] ⟨dX1_isReady_40, rfl⟩ rfl ?_
            refine t_icmp_eq C 59 44 dX1_isReady_41 rfl rfl (fun hc8 => ?_) (fun hc8 => ?_)
            · replace hw := hw.1 hc8
              refine t_b C (pc' := 60) (L' := [(0, vA (some o)), (1, vI p0), (2, vI s1)]) (st' := [vI 0]) [(.iconst 0, 1)] ⟨dX1_isReady_59, rfl⟩ rfl ?_
              exact t_zret C dX1_isReady_60 rfl ⟨_, rfl, hw⟩
            · replace hw := hw.2 hc8
              refine t_b C (pc' := 45) (L' := [(0, vA (some o)), (1, vI p0), (2, vI s1)]) (st' := [vA (some o)]) [(.aload_n 0, 1)] ⟨dX1_isReady_44, rfl⟩ rfl ?_
              refine t_gA C 259 29 48 dX1_isReady_45 rfl rfl rfl rfl rfl q2247 (fun _ _ _ => rfl) ?_
              refine t_b C (pc' := 49) (L' := [(0, vA (some o)), (1, vI p0), (2, vI s1)]) (st' := [vI s1, vA (some (o + 1 + 29))]) [(.iload_n 2, 1)] ⟨dX1_isReady_48, rfl⟩ rfl ?_
              refine t_iald C 50 dX1_isReady_49 rfl hw.1 ?_
              replace hw := hw.2
              refine t_b C (pc' := 51) (L' := [(0, vA (some o)), (1, vI p0), (2, vI s1)]) (st' := [vA (some o), vI (T4.a 29 (ni s1))]) [(.aload_n 0, 1)] ⟨dX1_isReady_50, rfl⟩ rfl ?_
              refine t_gA C 259 29 54 dX1_isReady_51 rfl rfl rfl rfl rfl q2247 (fun _ _ _ => rfl) ?_
              refine t_b C (pc' := 55) (L' := [(0, vA (some o)), (1, vI p0), (2, vI s1)]) (st' := [vI p0, vA (some (o + 1 + 29)), vI (T4.a 29 (ni s1))]) [(.iload_n 1, 1)] ⟨dX1_isReady_54, rfl⟩ rfl ?_
              refine t_iald C 56 dX1_isReady_55 rfl hw.1 ?_
              replace hw := hw.2
              refine t_icmp_eq C 61 59 dX1_isReady_56 rfl rfl (fun hc9 => ?_) (fun hc9 => ?_)
              · replace hw := hw.1 hc9
                refine t_b C (pc' := 64) (L' := [(2, vI (s1 + 1)), (0, vA (some o)), (1, vI p0)]) (st' := []) [(.iinc 2 1, 3)] ⟨dX1_isReady_61, rfl⟩ rfl ?_
                refine t_goto C 2 dX1_isReady_64 rfl ?_
                refine t_sub C (L' := [(0, vA (some o)), (1, vI p0), (2, vI (s1 + 1))]) [1, 2, 0] rfl ?_
                obtain ⟨m9, hm9, hw⟩ := hw
                exact ih1 m9 hm9 (s1 + 1) T4 hw
              · replace hw := hw.2 hc9
                refine t_b C (pc' := 60) (L' := [(0, vA (some o)), (1, vI p0), (2, vI s1)]) (st' := [vI 0]) [(.iconst 0, 1)] ⟨dX1_isReady_59, rfl⟩ rfl ?_
                exact t_zret C dX1_isReady_60 rfl ⟨_, rfl, hw⟩
  exact key1 n1 0 T hI1
def wp_X1_isKnotReady (p0 : Int32) (T : TS) (Q : Int32 → TS → Prop) : Prop :=
  tlp (σ := Int32) (fun s1 T2 k1 =>
  (((8 * (T2.s 250)) ≤ s1 →
  Q 1 T2) ∧ (¬ (8 * (T2.s 250)) ≤ s1 →
  tix 36 42 s1 ∧
  (((T2.a 36 (ni s1)) = 0 →
  k1 (s1 + 1) T2) ∧ (¬ (T2.a 36 (ni s1)) = 0 →
  tix 29 40 s1 ∧
  (((T2.a 29 (ni s1)) = p0 →
  wp_X1_isReady s1 T2 fun r7 T6 =>
  ((r7 = 0 →
  Q 0 T6) ∧ (¬ r7 = 0 →
  k1 (s1 + 1) T6))) ∧ (¬ (T2.a 29 (ni s1)) = p0 →
  k1 (s1 + 1) T2))))))) 0 T
theorem hd_X1_isKnotReady : yX1_isKnotReady.cls = RX1 ∧ yX1_isKnotReady.cls ≠ "java/lang/invoke/MethodHandle" ∧ yX1_isKnotReady.cls ≠ "java/lang/invoke/VarHandle" ∧ (parseMethodDescriptor yX1_isKnotReady.desc).map (fun d => d.parameters.length) = some 1 := by decide +kernel
theorem ok_X1_isKnotReady {l : Launch} {D : va_G} {s0 : S0} (hG : G0 D s0) {o : Nat} {p0 : Int32} {T : TS} {Q : Int32 → TS → Prop} (hw : wp_X1_isKnotReady p0 T Q) : OKt l D s0 o yX1_isKnotReady cX1_isKnotReady 3 (some .boolean) 2 44 [vA (some o), vI p0] T (TI Q) := by
  refine t_met hG rfl rfl (L0 := [(0, vA (some o)), (1, vI p0)]) rfl rfl ?_
  intro h K C
  unfold wp_X1_isKnotReady at hw
  refine t_b C (pc' := 2) (L' := [(2, vI 0), (0, vA (some o)), (1, vI p0)]) (st' := []) [(.iconst 0, 1), (.istore_n 2, 1)] ⟨dX1_isKnotReady_0, dX1_isKnotReady_1, rfl⟩ rfl ?_
  obtain ⟨I1, ⟨n1, hI1⟩, hB1⟩ := tlp.out hw
  refine t_sub C (L' := [(0, vA (some o)), (1, vI p0), (2, vI 0)]) [1, 2, 0] rfl ?_
  have key1 : ∀ (n : Nat) (s1 : Int32) (T2 : TS), I1 n s1 T2 → K 2 [(0, vA (some o)), (1, vI p0), (2, vI s1)] [] T2 := by
    intro n
    induction n using Nat.strongRecOn with
    | ind n ih1 =>
      intro s1 T2 hI
      replace hw := hB1 n s1 T2 hI
      refine t_b C (pc' := 6) (L' := [(0, vA (some o)), (1, vI p0), (2, vI s1)]) (st' := [vA (some o), vI 8, vI s1]) [(.iload_n 2, 1), (.bipush 8, 2), (.aload_n 0, 1)] ⟨dX1_isKnotReady_2, dX1_isKnotReady_3, dX1_isKnotReady_5, rfl⟩ rfl ?_
      refine t_gI C 250 9 dX1_isKnotReady_6 rfl rfl rfl q2238 (fun _ _ _ => rfl) ?_
      refine t_b C (pc' := 10) (L' := [(0, vA (some o)), (1, vI p0), (2, vI s1)]) (st' := [vI (8 * (T2.s 250)), vI s1]) [(.imul, 1)] ⟨dX1_isKnotReady_9, rfl⟩ rfl ?_
      refine t_icmp_ge C 48 13 dX1_isKnotReady_10 rfl rfl (fun hc3 => ?_) (fun hc3 => ?_)
      · replace hw := hw.1 hc3
        refine t_b C (pc' := 49) (L' := [(0, vA (some o)), (1, vI p0), (2, vI s1)]) (st' := [vI 1]) [(.iconst 1, 1)] ⟨dX1_isKnotReady_48, rfl⟩ rfl ?_
        exact t_zret C dX1_isKnotReady_49 rfl ⟨_, rfl, hw⟩
      · replace hw := hw.2 hc3
        refine t_b C (pc' := 14) (L' := [(0, vA (some o)), (1, vI p0), (2, vI s1)]) (st' := [vA (some o)]) [(.aload_n 0, 1)] ⟨dX1_isKnotReady_13, rfl⟩ rfl ?_
        refine t_gA C 266 36 17 dX1_isKnotReady_14 rfl rfl rfl rfl rfl q2254 (fun _ _ _ => rfl) ?_
        refine t_b C (pc' := 18) (L' := [(0, vA (some o)), (1, vI p0), (2, vI s1)]) (st' := [vI s1, vA (some (o + 1 + 36))]) [(.iload_n 2, 1)] ⟨dX1_isKnotReady_17, rfl⟩ rfl ?_
        refine t_zald C 19 dX1_isKnotReady_18 rfl hw.1 ?_
        replace hw := hw.2
        refine t_if_eq C 42 22 dX1_isKnotReady_19 rfl rfl (fun hc4 => ?_) (fun hc4 => ?_)
        · replace hw := hw.1 hc4
          refine t_b C (pc' := 45) (L' := [(2, vI (s1 + 1)), (0, vA (some o)), (1, vI p0)]) (st' := []) [(.iinc 2 1, 3)] ⟨dX1_isKnotReady_42, rfl⟩ rfl ?_
          refine t_goto C 2 dX1_isKnotReady_45 rfl ?_
          refine t_sub C (L' := [(0, vA (some o)), (1, vI p0), (2, vI (s1 + 1))]) [1, 2, 0] rfl ?_
          obtain ⟨m9, hm9, hw⟩ := hw
          exact ih1 m9 hm9 (s1 + 1) T2 hw
        · replace hw := hw.2 hc4
          refine t_b C (pc' := 23) (L' := [(0, vA (some o)), (1, vI p0), (2, vI s1)]) (st' := [vA (some o)]) [(.aload_n 0, 1)] ⟨dX1_isKnotReady_22, rfl⟩ rfl ?_
          refine t_gA C 259 29 26 dX1_isKnotReady_23 rfl rfl rfl rfl rfl q2247 (fun _ _ _ => rfl) ?_
          refine t_b C (pc' := 27) (L' := [(0, vA (some o)), (1, vI p0), (2, vI s1)]) (st' := [vI s1, vA (some (o + 1 + 29))]) [(.iload_n 2, 1)] ⟨dX1_isKnotReady_26, rfl⟩ rfl ?_
          refine t_iald C 28 dX1_isKnotReady_27 rfl hw.1 ?_
          replace hw := hw.2
          refine t_b C (pc' := 29) (L' := [(0, vA (some o)), (1, vI p0), (2, vI s1)]) (st' := [vI p0, vI (T2.a 29 (ni s1))]) [(.iload_n 1, 1)] ⟨dX1_isKnotReady_28, rfl⟩ rfl ?_
          refine t_icmp_ne C 42 32 dX1_isKnotReady_29 rfl rfl (fun hc5 => ?_) (fun hc5 => ?_)
          · replace hw := hw.2 hc5
            refine t_b C (pc' := 45) (L' := [(2, vI (s1 + 1)), (0, vA (some o)), (1, vI p0)]) (st' := []) [(.iinc 2 1, 3)] ⟨dX1_isKnotReady_42, rfl⟩ rfl ?_
            refine t_goto C 2 dX1_isKnotReady_45 rfl ?_
            refine t_sub C (L' := [(0, vA (some o)), (1, vI p0), (2, vI (s1 + 1))]) [1, 2, 0] rfl ?_
            obtain ⟨m9, hm9, hw⟩ := hw
            exact ih1 m9 hm9 (s1 + 1) T2 hw
          · replace hw := hw.1 hc5
            refine t_b C (pc' := 34) (L' := [(0, vA (some o)), (1, vI p0), (2, vI s1)]) (st' := [vI s1, vA (some o)]) [(.aload_n 0, 1), (.iload_n 2, 1)] ⟨dX1_isKnotReady_32, dX1_isKnotReady_33, rfl⟩ rfl ?_
            refine t_callVI C 37 [vI s1] [] dX1_isKnotReady_34 rfl (ok_X1_isReady hG hw) q2813 q2815 qs142 q159 q2816 hd_X1_isReady ⟨rfl, rfl, rfl⟩ (fun r7 T6 hw => ?_)
            refine t_if_ne C 42 40 dX1_isKnotReady_37 rfl rfl (fun hc8 => ?_) (fun hc8 => ?_)
            · replace hw := hw.2 hc8
              refine t_b C (pc' := 45) (L' := [(2, vI (s1 + 1)), (0, vA (some o)), (1, vI p0)]) (st' := []) [(.iinc 2 1, 3)] ⟨dX1_isKnotReady_42, rfl⟩ rfl ?_
              refine t_goto C 2 dX1_isKnotReady_45 rfl ?_
              refine t_sub C (L' := [(0, vA (some o)), (1, vI p0), (2, vI (s1 + 1))]) [1, 2, 0] rfl ?_
              obtain ⟨m9, hm9, hw⟩ := hw
              exact ih1 m9 hm9 (s1 + 1) T6 hw
            · replace hw := hw.1 hc8
              refine t_b C (pc' := 41) (L' := [(0, vA (some o)), (1, vI p0), (2, vI s1)]) (st' := [vI 0]) [(.iconst 0, 1)] ⟨dX1_isKnotReady_40, rfl⟩ rfl ?_
              exact t_zret C dX1_isKnotReady_41 rfl ⟨_, rfl, hw⟩
  exact key1 n1 0 T hI1
def wp_X1_isNode (p0 : Int32) (T : TS) (Q : Int32 → TS → Prop) : Prop :=
  wp_X1_isFrom p0 0 ((T.s 250) - 1) T fun r2 T1 =>
  bz r2 ∧ Q r2 T1
theorem hd_X1_isNode : yX1_isNode.cls = RX1 ∧ yX1_isNode.cls ≠ "java/lang/invoke/MethodHandle" ∧ yX1_isNode.cls ≠ "java/lang/invoke/VarHandle" ∧ (parseMethodDescriptor yX1_isNode.desc).map (fun d => d.parameters.length) = some 1 := by decide +kernel
theorem ok_X1_isNode {l : Launch} {D : va_G} {s0 : S0} (hG : G0 D s0) {o : Nat} {p0 : Int32} {T : TS} {Q : Int32 → TS → Prop} (hw : wp_X1_isNode p0 T Q) : OKt l D s0 o yX1_isNode cX1_isNode 2 (some .boolean) 1 22 [vA (some o), vI p0] T (TI Q) := by
  refine t_met hG rfl rfl (L0 := [(0, vA (some o)), (1, vI p0)]) rfl rfl ?_
  intro h K C
  unfold wp_X1_isNode at hw
  refine t_b C (pc' := 3) (L' := [(0, vA (some o)), (1, vI p0)]) (st' := [vA (some o), vI 0, vI p0]) [(.iload_n 1, 1), (.iconst 0, 1), (.aload_n 0, 1)] ⟨dX1_isNode_0, dX1_isNode_1, dX1_isNode_2, rfl⟩ rfl ?_
  refine t_gI C 250 6 dX1_isNode_3 rfl rfl rfl q2238 (fun _ _ _ => rfl) ?_
  refine t_b C (pc' := 8) (L' := [(0, vA (some o)), (1, vI p0)]) (st' := [vI ((T.s 250) - 1), vI 0, vI p0]) [(.iconst 1, 1), (.isub, 1)] ⟨dX1_isNode_6, dX1_isNode_7, rfl⟩ rfl ?_
  refine t_callSI C 11 [vI p0, vI 0, vI ((T.s 250) - 1)] [] dX1_isNode_8 rfl (ok_X1_isFrom hG hw) q2431 q2432 q159 q2433 hd_X1_isFrom ⟨rfl, rfl, rfl⟩ (fun r2 T1 hw => ?_)
  exact t_zret C dX1_isNode_11 (bz_n hw.1) ⟨_, rfl, hw.2⟩
def wp_X1_symbolOf (p0 : Int32) (T : TS) (Q : Int32 → TS → Prop) : Prop :=
  tix 19 40 p0 ∧
  tix 1 40 (20 + (T.a 19 (ni p0))) ∧
  Q (T.a 1 (ni (20 + (T.a 19 (ni p0))))) T
theorem hd_X1_symbolOf : yX1_symbolOf.cls = RX1 ∧ yX1_symbolOf.cls ≠ "java/lang/invoke/MethodHandle" ∧ yX1_symbolOf.cls ≠ "java/lang/invoke/VarHandle" ∧ (parseMethodDescriptor yX1_symbolOf.desc).map (fun d => d.parameters.length) = some 1 := by decide +kernel
theorem ok_X1_symbolOf {l : Launch} {D : va_G} {s0 : S0} (hG : G0 D s0) {o : Nat} {p0 : Int32} {T : TS} {Q : Int32 → TS → Prop} (hw : wp_X1_symbolOf p0 T Q) : OKt l D s0 o yX1_symbolOf cX1_symbolOf 2 (some .int) 0 0 [vA (some o), vI p0] T (TI Q) := by
  refine t_met hG rfl rfl (L0 := [(0, vA (some o)), (1, vI p0)]) rfl rfl ?_
  intro h K C
  unfold wp_X1_symbolOf at hw
  refine t_b C (pc' := 1) (L' := [(0, vA (some o)), (1, vI p0)]) (st' := [vA (some o)]) [(.aload_n 0, 1)] ⟨dX1_symbolOf_0, rfl⟩ rfl ?_
  refine t_gA C 201 1 4 dX1_symbolOf_1 rfl rfl rfl rfl rfl q2189 (fun _ _ _ => rfl) ?_
  refine t_b C (pc' := 7) (L' := [(0, vA (some o)), (1, vI p0)]) (st' := [vA (some o), vI 20, vA (some (o + 1 + 1))]) [(.bipush 20, 2), (.aload_n 0, 1)] ⟨dX1_symbolOf_4, dX1_symbolOf_6, rfl⟩ rfl ?_
  refine t_gA C 243 19 10 dX1_symbolOf_7 rfl rfl rfl rfl rfl q2231 (fun _ _ _ => rfl) ?_
  refine t_b C (pc' := 11) (L' := [(0, vA (some o)), (1, vI p0)]) (st' := [vI p0, vA (some (o + 1 + 19)), vI 20, vA (some (o + 1 + 1))]) [(.iload_n 1, 1)] ⟨dX1_symbolOf_10, rfl⟩ rfl ?_
  refine t_iald C 12 dX1_symbolOf_11 rfl hw.1 ?_
  replace hw := hw.2
  refine t_b C (pc' := 13) (L' := [(0, vA (some o)), (1, vI p0)]) (st' := [vI (20 + (T.a 19 (ni p0))), vA (some (o + 1 + 1))]) [(.iadd, 1)] ⟨dX1_symbolOf_12, rfl⟩ rfl ?_
  refine t_iald C 14 dX1_symbolOf_13 rfl hw.1 ?_
  replace hw := hw.2
  exact t_iret C dX1_symbolOf_14 ⟨_, rfl, hw⟩
def wp_X1_isInstance (p0 : Int32) (p1 : Int32) (T : TS) (Q : Int32 → TS → Prop) : Prop :=
  wp_X1_isNode p0 T fun r2 T1 =>
  ((r2 = 0 →
  Q 0 T1) ∧ (¬ r2 = 0 →
  wp_X1_symbolOf p0 T1 fun r5 T4 =>
  wp_X1_attributes r5 T4 fun r7 T6 =>
  wp_X1_isFrom p1 0 (r7 - 1) T6 fun r9 T8 =>
  ∀ m10 : Int32, m10 = (if r9 = 0 then 0 else 1) →
  bz m10 ∧ Q m10 T8))
theorem hd_X1_isInstance : yX1_isInstance.cls = RX1 ∧ yX1_isInstance.cls ≠ "java/lang/invoke/MethodHandle" ∧ yX1_isInstance.cls ≠ "java/lang/invoke/VarHandle" ∧ (parseMethodDescriptor yX1_isInstance.desc).map (fun d => d.parameters.length) = some 2 := by decide +kernel
theorem ok_X1_isInstance {l : Launch} {D : va_G} {s0 : S0} (hG : G0 D s0) {o : Nat} {p0 : Int32} {p1 : Int32} {T : TS} {Q : Int32 → TS → Prop} (hw : wp_X1_isInstance p0 p1 T Q) : OKt l D s0 o yX1_isInstance cX1_isInstance 3 (some .boolean) 2 43 [vA (some o), vI p0, vI p1] T (TI Q) := by
  refine t_met hG rfl rfl (L0 := [(0, vA (some o)), (1, vI p0), (2, vI p1)]) rfl rfl ?_
  intro h K C
  unfold wp_X1_isInstance at hw
  refine t_b C (pc' := 2) (L' := [(0, vA (some o)), (1, vI p0), (2, vI p1)]) (st' := [vI p0, vA (some o)]) [(.aload_n 0, 1), (.iload_n 1, 1)] ⟨dX1_isInstance_0, dX1_isInstance_1, rfl⟩ rfl ?_
  refine t_callVI C 5 [vI p0] [] dX1_isInstance_2 rfl (ok_X1_isNode hG hw) q2778 q2780 qs134 q159 q2781 hd_X1_isNode ⟨rfl, rfl, rfl⟩ (fun r2 T1 hw => ?_)
  refine t_if_eq C 31 8 dX1_isInstance_5 rfl rfl (fun hc3 => ?_) (fun hc3 => ?_)
  · replace hw := hw.1 hc3
    refine t_b C (pc' := 32) (L' := [(0, vA (some o)), (1, vI p0), (2, vI p1)]) (st' := [vI 0]) [(.iconst 0, 1)] ⟨dX1_isInstance_31, rfl⟩ rfl ?_
    exact t_zret C dX1_isInstance_32 rfl ⟨_, rfl, hw⟩
  · replace hw := hw.2 hc3
    refine t_b C (pc' := 13) (L' := [(0, vA (some o)), (1, vI p0), (2, vI p1)]) (st' := [vI p0, vA (some o), vA (some o), vI 0, vI p1]) [(.iload_n 2, 1), (.iconst 0, 1), (.aload_n 0, 1), (.aload_n 0, 1), (.iload_n 1, 1)] ⟨dX1_isInstance_8, dX1_isInstance_9, dX1_isInstance_10, dX1_isInstance_11, dX1_isInstance_12, rfl⟩ rfl ?_
    refine t_callVI C 16 [vI p0] [vA (some o), vI 0, vI p1] dX1_isInstance_13 rfl (ok_X1_symbolOf hG hw) q2782 q2784 qs135 q159 q2785 hd_X1_symbolOf ⟨rfl, rfl, rfl⟩ (fun r5 T4 hw => ?_)
    refine t_callVI C 19 [vI r5] [vI 0, vI p1] dX1_isInstance_16 rfl (ok_X1_attributes hG hw) q2578 q2580 qs98 q159 q2581 hd_X1_attributes ⟨rfl, rfl, rfl⟩ (fun r7 T6 hw => ?_)
    refine t_b C (pc' := 21) (L' := [(0, vA (some o)), (1, vI p0), (2, vI p1)]) (st' := [vI (r7 - 1), vI 0, vI p1]) [(.iconst 1, 1), (.isub, 1)] ⟨dX1_isInstance_19, dX1_isInstance_20, rfl⟩ rfl ?_
    refine t_callSI C 24 [vI p1, vI 0, vI (r7 - 1)] [] dX1_isInstance_21 rfl (ok_X1_isFrom hG hw) q2431 q2432 q159 q2433 hd_X1_isFrom ⟨rfl, rfl, rfl⟩ (fun r9 T8 hw => ?_)
    have kj11 : ∀ (m10 : Int32), m10 = (if r9 = 0 then 0 else 1) → K 32 [] [vI m10] T8 := by
      intro m10 em10
      replace hw := hw m10 em10
      exact t_zret C dX1_isInstance_32 (bz_n hw.1) ⟨_, rfl, hw.2⟩
    refine t_if_eq C 31 27 dX1_isInstance_24 rfl rfl (fun hc12 => ?_) (fun hc12 => ?_)
    · refine t_b C (pc' := 32) (L' := [(0, vA (some o)), (1, vI p0), (2, vI p1)]) (st' := [vI 0]) [(.iconst 0, 1)] ⟨dX1_isInstance_31, rfl⟩ rfl ?_
      refine t_sub C (L' := []) [] rfl ?_
      exact kj11 _ ((if_pos hc12).symm)
    · refine t_b C (pc' := 28) (L' := [(0, vA (some o)), (1, vI p0), (2, vI p1)]) (st' := [vI 1]) [(.iconst 1, 1)] ⟨dX1_isInstance_27, rfl⟩ rfl ?_
      refine t_goto C 32 dX1_isInstance_28 rfl ?_
      refine t_sub C (L' := []) [] rfl ?_
      exact kj11 _ ((if_neg hc12).symm)
def wp_X1_positionOf (p0 : Int32) (T : TS) (Q : Int32 → TS → Prop) : Prop :=
  tix 21 40 p0 ∧
  tlp (σ := Int32 × Int32) (fun s1 T2 k1 =>
  ((p0 ≤ s1.2 →
  Q s1.1 T2) ∧ (¬ p0 ≤ s1.2 →
  tix 21 40 s1.2 ∧
  tix 21 40 p0 ∧
  ∀ m4 : Int32, m4 = (if (T2.a 21 (ni s1.2)) = (T2.a 21 (ni p0)) then 1 else 0) →
  k1 ((s1.1 + m4), (s1.2 + 1)) T2))) (1, ((T.a 21 (ni p0)) + 1)) T
theorem hd_X1_positionOf : yX1_positionOf.cls = RX1 ∧ yX1_positionOf.cls ≠ "java/lang/invoke/MethodHandle" ∧ yX1_positionOf.cls ≠ "java/lang/invoke/VarHandle" ∧ (parseMethodDescriptor yX1_positionOf.desc).map (fun d => d.parameters.length) = some 1 := by decide +kernel
theorem ok_X1_positionOf {l : Launch} {D : va_G} {s0 : S0} (hG : G0 D s0) {o : Nat} {p0 : Int32} {T : TS} {Q : Int32 → TS → Prop} (hw : wp_X1_positionOf p0 T Q) : OKt l D s0 o yX1_positionOf cX1_positionOf 4 (some .int) 0 0 [vA (some o), vI p0] T (TI Q) := by
  refine t_met hG rfl rfl (L0 := [(0, vA (some o)), (1, vI p0)]) rfl rfl ?_
  intro h K C
  unfold wp_X1_positionOf at hw
  refine t_b C (pc' := 3) (L' := [(2, vI 1), (0, vA (some o)), (1, vI p0)]) (st' := [vA (some o)]) [(.iconst 1, 1), (.istore_n 2, 1), (.aload_n 0, 1)] ⟨dX1_positionOf_0, dX1_positionOf_1, dX1_positionOf_2, rfl⟩ rfl ?_
  refine t_gA C 245 21 6 dX1_positionOf_3 rfl rfl rfl rfl rfl q2233 (fun _ _ _ => rfl) ?_
  refine t_b C (pc' := 7) (L' := [(2, vI 1), (0, vA (some o)), (1, vI p0)]) (st' := [vI p0, vA (some (o + 1 + 21))]) [(.iload_n 1, 1)] ⟨dX1_positionOf_6, rfl⟩ rfl ?_
  refine t_iald C 8 dX1_positionOf_7 rfl hw.1 ?_
  replace hw := hw.2
  refine t_b C (pc' := 11) (L' := [(3, vI ((T.a 21 (ni p0)) + 1)), (2, vI 1), (0, vA (some o)), (1, vI p0)]) (st' := []) [(.iconst 1, 1), (.iadd, 1), (.istore_n 3, 1)] ⟨dX1_positionOf_8, dX1_positionOf_9, dX1_positionOf_10, rfl⟩ rfl ?_
  obtain ⟨I1, ⟨n1, hI1⟩, hB1⟩ := tlp.out hw
  refine t_sub C (L' := [(0, vA (some o)), (1, vI p0), (2, vI 1), (3, vI ((T.a 21 (ni p0)) + 1))]) [2, 3, 1, 0] rfl ?_
  have key1 : ∀ (n : Nat) (s1 : Int32 × Int32) (T2 : TS), I1 n s1 T2 → K 11 [(0, vA (some o)), (1, vI p0), (2, vI (s1.1)), (3, vI (s1.2))] [] T2 := by
    intro n
    induction n using Nat.strongRecOn with
    | ind n ih1 =>
      intro s1 T2 hI
      replace hw := hB1 n s1 T2 hI
      refine t_b C (pc' := 13) (L' := [(0, vA (some o)), (1, vI p0), (2, vI (s1.1)), (3, vI (s1.2))]) (st' := [vI p0, vI (s1.2)]) [(.iload_n 3, 1), (.iload_n 1, 1)] ⟨dX1_positionOf_11, dX1_positionOf_12, rfl⟩ rfl ?_
      refine t_icmp_ge C 45 16 dX1_positionOf_13 rfl rfl (fun hc3 => ?_) (fun hc3 => ?_)
      · replace hw := hw.1 hc3
        refine t_b C (pc' := 46) (L' := [(0, vA (some o)), (1, vI p0), (2, vI (s1.1)), (3, vI (s1.2))]) (st' := [vI (s1.1)]) [(.iload_n 2, 1)] ⟨dX1_positionOf_45, rfl⟩ rfl ?_
        exact t_iret C dX1_positionOf_46 ⟨_, rfl, hw⟩
      · replace hw := hw.2 hc3
        refine t_b C (pc' := 18) (L' := [(0, vA (some o)), (1, vI p0), (2, vI (s1.1)), (3, vI (s1.2))]) (st' := [vA (some o), vI (s1.1)]) [(.iload_n 2, 1), (.aload_n 0, 1)] ⟨dX1_positionOf_16, dX1_positionOf_17, rfl⟩ rfl ?_
        refine t_gA C 245 21 21 dX1_positionOf_18 rfl rfl rfl rfl rfl q2233 (fun _ _ _ => rfl) ?_
        refine t_b C (pc' := 22) (L' := [(0, vA (some o)), (1, vI p0), (2, vI (s1.1)), (3, vI (s1.2))]) (st' := [vI (s1.2), vA (some (o + 1 + 21)), vI (s1.1)]) [(.iload_n 3, 1)] ⟨dX1_positionOf_21, rfl⟩ rfl ?_
        refine t_iald C 23 dX1_positionOf_22 rfl hw.1 ?_
        replace hw := hw.2
        refine t_b C (pc' := 24) (L' := [(0, vA (some o)), (1, vI p0), (2, vI (s1.1)), (3, vI (s1.2))]) (st' := [vA (some o), vI (T2.a 21 (ni s1.2)), vI (s1.1)]) [(.aload_n 0, 1)] ⟨dX1_positionOf_23, rfl⟩ rfl ?_
        refine t_gA C 245 21 27 dX1_positionOf_24 rfl rfl rfl rfl rfl q2233 (fun _ _ _ => rfl) ?_
        refine t_b C (pc' := 28) (L' := [(0, vA (some o)), (1, vI p0), (2, vI (s1.1)), (3, vI (s1.2))]) (st' := [vI p0, vA (some (o + 1 + 21)), vI (T2.a 21 (ni s1.2)), vI (s1.1)]) [(.iload_n 1, 1)] ⟨dX1_positionOf_27, rfl⟩ rfl ?_
        refine t_iald C 29 dX1_positionOf_28 rfl hw.1 ?_
        replace hw := hw.2
        have kj5 : ∀ (m4 : Int32), m4 = (if (T2.a 21 (ni s1.2)) = (T2.a 21 (ni p0)) then 1 else 0) → K 37 [(0, vA (some o)), (1, vI p0), (3, vI (s1.2))] [vI m4, vI (s1.1)] T2 := by
          intro m4 em4
          replace hw := hw m4 em4
          refine t_b C (pc' := 42) (L' := [(3, vI (s1.2 + 1)), (2, vI (s1.1 + m4)), (0, vA (some o)), (1, vI p0)]) (st' := []) [(.iadd, 1), (.istore_n 2, 1), (.iinc 3 1, 3)] ⟨dX1_positionOf_37, dX1_positionOf_38, dX1_positionOf_39, rfl⟩ rfl ?_
          refine t_goto C 11 dX1_positionOf_42 rfl ?_
          refine t_sub C (L' := [(0, vA (some o)), (1, vI p0), (2, vI (s1.1 + m4)), (3, vI (s1.2 + 1))]) [2, 3, 1, 0] rfl ?_
          obtain ⟨m9, hm9, hw⟩ := hw
          exact ih1 m9 hm9 ((s1.1 + m4), (s1.2 + 1)) T2 hw
        refine t_icmp_ne C 36 32 dX1_positionOf_29 rfl rfl (fun hc6 => ?_) (fun hc6 => ?_)
        · refine t_b C (pc' := 37) (L' := [(0, vA (some o)), (1, vI p0), (2, vI (s1.1)), (3, vI (s1.2))]) (st' := [vI 0, vI (s1.1)]) [(.iconst 0, 1)] ⟨dX1_positionOf_36, rfl⟩ rfl ?_
          refine t_sub C (L' := [(0, vA (some o)), (1, vI p0), (3, vI (s1.2))]) [0, 1, 3] rfl ?_
          exact kj5 _ ((if_neg hc6).symm)
        · refine t_b C (pc' := 33) (L' := [(0, vA (some o)), (1, vI p0), (2, vI (s1.1)), (3, vI (s1.2))]) (st' := [vI 1, vI (s1.1)]) [(.iconst 1, 1)] ⟨dX1_positionOf_32, rfl⟩ rfl ?_
          refine t_goto C 37 dX1_positionOf_33 rfl ?_
          refine t_sub C (L' := [(0, vA (some o)), (1, vI p0), (3, vI (s1.2))]) [0, 1, 3] rfl ?_
          exact kj5 _ ((if_pos hc6).symm)
  exact key1 n1 (1, ((T.a 21 (ni p0)) + 1)) T hI1
def wp_X1_laysBases  (T : TS) (Q : TS → Prop) : Prop :=
  tlp (σ := Int32) (fun s1 T2 k1 =>
  ((320 ≤ s1 →
  Q T2) ∧ (¬ 320 ≤ s1 →
  wp_X1_isInstance (s1 / 8) (jrem s1 8) T2 fun r5 T4 =>
  tix 36 42 s1 ∧
  ∀ T6, T6 = T4.sa 36 (ni s1) (vp_nar .boolean r5) →
  tix 36 42 s1 ∧
  (((T6.a 36 (ni s1)) = 0 →
  k1 (s1 + 1) T6) ∧ (¬ (T6.a 36 (ni s1)) = 0 →
  wp_X1_symbolOf (s1 / 8) T6 fun r9 T8 =>
  tix 1 40 (4 + r9) ∧
  ∀ m10 : Int32, m10 = (if (T8.a 1 (ni (4 + r9))) ≤ (jrem s1 8) then 0 else 1) →
  tjn (α := Int32) (fun J13 =>
  ((m10 = 0 →
  J13 (s1 / 8) T8) ∧ (¬ m10 = 0 →
  tix 21 40 (s1 / 8) ∧
  J13 (T8.a 21 (ni (s1 / 8))) T8))) (fun x15 T16 =>
  tix 26 40 s1 ∧
  ∀ T17, T17 = T16.sa 26 (ni s1) x15 →
  ((m10 = 0 →
  tix 27 40 s1 ∧
  ∀ T19, T19 = T17.sa 27 (ni s1) (jrem s1 8) →
  k1 (s1 + 1) T19) ∧ (¬ m10 = 0 →
  tix 21 40 (s1 / 8) ∧
  (((T17.a 21 (ni (s1 / 8))) = (-1) →
  tix 27 40 s1 ∧
  ∀ T21, T21 = T17.sa 27 (ni s1) (jrem s1 8) →
  k1 (s1 + 1) T21) ∧ (¬ (T17.a 21 (ni (s1 / 8))) = (-1) →
  wp_X1_positionOf (s1 / 8) T17 fun r23 T22 =>
  tix 27 40 s1 ∧
  ∀ T24, T24 = T22.sa 27 (ni s1) ((8 * r23) + (jrem s1 8)) →
  k1 (s1 + 1) T24)))))))))) 0 T
theorem hd_X1_laysBases : yX1_laysBases.cls = RX1 ∧ yX1_laysBases.cls ≠ "java/lang/invoke/MethodHandle" ∧ yX1_laysBases.cls ≠ "java/lang/invoke/VarHandle" ∧ (parseMethodDescriptor yX1_laysBases.desc).map (fun d => d.parameters.length) = some 0 := by decide +kernel
theorem ok_X1_laysBases {l : Launch} {D : va_G} {s0 : S0} (hG : G0 D s0) {o : Nat}  {T : TS} {Q : TS → Prop} (hw : wp_X1_laysBases  T Q) : OKt l D s0 o yX1_laysBases cX1_laysBases 5 none 3 65 [vA (some o)] T (TV Q) := by
  refine t_met hG rfl rfl (L0 := [(0, vA (some o))]) rfl rfl ?_
  intro h K C
  unfold wp_X1_laysBases at hw
  refine t_b C (pc' := 2) (L' := [(1, vI 0), (0, vA (some o))]) (st' := []) [(.iconst 0, 1), (.istore_n 1, 1)] ⟨dX1_laysBases_0, dX1_laysBases_1, rfl⟩ rfl ?_
  obtain ⟨I1, ⟨n1, hI1⟩, hB1⟩ := tlp.out hw
  refine t_sub C (L' := [(0, vA (some o)), (1, vI 0)]) [1, 0] rfl ?_
  have key1 : ∀ (n : Nat) (s1 : Int32) (T2 : TS), I1 n s1 T2 → K 2 [(0, vA (some o)), (1, vI s1)] [] T2 := by
    intro n
    induction n using Nat.strongRecOn with
    | ind n ih1 =>
      intro s1 T2 hI
      replace hw := hB1 n s1 T2 hI
      refine t_b C (pc' := 6) (L' := [(0, vA (some o)), (1, vI s1)]) (st' := [vI 320, vI s1]) [(.iload_n 1, 1), (.sipush 320, 3)] ⟨dX1_laysBases_2, dX1_laysBases_3, rfl⟩ rfl ?_
      refine t_icmp_ge C 128 9 dX1_laysBases_6 rfl rfl (fun hc3 => ?_) (fun hc3 => ?_)
      · replace hw := hw.1 hc3
        exact t_vret C dX1_laysBases_128 ⟨rfl, hw⟩
      · replace hw := hw.2 hc3
        refine t_b C (pc' := 20) (L' := [(3, vI (jrem s1 8)), (2, vI (s1 / 8)), (0, vA (some o)), (1, vI s1)]) (st' := [vA (some o)]) [(.iload_n 1, 1), (.bipush 8, 2), (.idiv, 1), (.istore_n 2, 1), (.iload_n 1, 1), (.bipush 8, 2), (.irem, 1), (.istore_n 3, 1), (.aload_n 0, 1)] ⟨dX1_laysBases_9, dX1_laysBases_10, dX1_laysBases_12, dX1_laysBases_13, dX1_laysBases_14, dX1_laysBases_15, dX1_laysBases_17, dX1_laysBases_18, dX1_laysBases_19, rfl⟩ rfl ?_
        refine t_gA C 266 36 23 dX1_laysBases_20 rfl rfl rfl rfl rfl q2254 (fun _ _ _ => rfl) ?_
        refine t_b C (pc' := 27) (L' := [(3, vI (jrem s1 8)), (2, vI (s1 / 8)), (0, vA (some o)), (1, vI s1)]) (st' := [vI (jrem s1 8), vI (s1 / 8), vA (some o), vI s1, vA (some (o + 1 + 36))]) [(.iload_n 1, 1), (.aload_n 0, 1), (.iload_n 2, 1), (.iload_n 3, 1)] ⟨dX1_laysBases_23, dX1_laysBases_24, dX1_laysBases_25, dX1_laysBases_26, rfl⟩ rfl ?_
        refine t_callVI C 30 [vI (s1 / 8), vI (jrem s1 8)] [vI s1, vA (some (o + 1 + 36))] dX1_laysBases_27 rfl (ok_X1_isInstance hG hw) q2774 q2776 qs133 q159 q2777 hd_X1_isInstance ⟨rfl, rfl, rfl⟩ (fun r5 T4 hw => ?_)
        refine t_zast C 31 dX1_laysBases_30 rfl hw.1 (fun T6 eT6 => ?_)
        replace hw := hw.2 T6 eT6
        refine t_b C (pc' := 32) (L' := [(3, vI (jrem s1 8)), (2, vI (s1 / 8)), (0, vA (some o)), (1, vI s1)]) (st' := [vA (some o)]) [(.aload_n 0, 1)] ⟨dX1_laysBases_31, rfl⟩ rfl ?_
        refine t_gA C 266 36 35 dX1_laysBases_32 rfl rfl rfl rfl rfl q2254 (fun _ _ _ => rfl) ?_
        refine t_b C (pc' := 36) (L' := [(3, vI (jrem s1 8)), (2, vI (s1 / 8)), (0, vA (some o)), (1, vI s1)]) (st' := [vI s1, vA (some (o + 1 + 36))]) [(.iload_n 1, 1)] ⟨dX1_laysBases_35, rfl⟩ rfl ?_
        refine t_zald C 37 dX1_laysBases_36 rfl hw.1 ?_
        replace hw := hw.2
        refine t_if_ne C 43 40 dX1_laysBases_37 rfl rfl (fun hc7 => ?_) (fun hc7 => ?_)
        · replace hw := hw.2 hc7
          refine t_b C (pc' := 45) (L' := [(3, vI (jrem s1 8)), (2, vI (s1 / 8)), (0, vA (some o)), (1, vI s1)]) (st' := [vA (some o), vI (jrem s1 8)]) [(.iload_n 3, 1), (.aload_n 0, 1)] ⟨dX1_laysBases_43, dX1_laysBases_44, rfl⟩ rfl ?_
          refine t_gA C 201 1 48 dX1_laysBases_45 rfl rfl rfl rfl rfl q2189 (fun _ _ _ => rfl) ?_
          refine t_b C (pc' := 51) (L' := [(3, vI (jrem s1 8)), (2, vI (s1 / 8)), (0, vA (some o)), (1, vI s1)]) (st' := [vI (s1 / 8), vA (some o), vI 4, vA (some (o + 1 + 1)), vI (jrem s1 8)]) [(.iconst 4, 1), (.aload_n 0, 1), (.iload_n 2, 1)] ⟨dX1_laysBases_48, dX1_laysBases_49, dX1_laysBases_50, rfl⟩ rfl ?_
          refine t_callVI C 54 [vI (s1 / 8)] [vI 4, vA (some (o + 1 + 1)), vI (jrem s1 8)] dX1_laysBases_51 rfl (ok_X1_symbolOf hG hw) q2782 q2784 qs135 q159 q2785 hd_X1_symbolOf ⟨rfl, rfl, rfl⟩ (fun r9 T8 hw => ?_)
          refine t_b C (pc' := 55) (L' := [(3, vI (jrem s1 8)), (2, vI (s1 / 8)), (0, vA (some o)), (1, vI s1)]) (st' := [vI (4 + r9), vA (some (o + 1 + 1)), vI (jrem s1 8)]) [(.iadd, 1)] ⟨dX1_laysBases_54, rfl⟩ rfl ?_
          refine t_iald C 56 dX1_laysBases_55 rfl hw.1 ?_
          replace hw := hw.2
          have kj11 : ∀ (m10 : Int32), m10 = (if (T8.a 1 (ni (4 + r9))) ≤ (jrem s1 8) then 0 else 1) → K 64 [(0, vA (some o)), (1, vI s1), (2, vI (s1 / 8)), (3, vI (jrem s1 8))] [vI m10] T8 := by
            intro m10 em10
            replace hw := hw m10 em10
            refine t_b C (pc' := 67) (L' := [(4, vI m10), (0, vA (some o)), (1, vI s1), (2, vI (s1 / 8)), (3, vI (jrem s1 8))]) (st' := [vA (some o)]) [(.istore 4, 2), (.aload_n 0, 1)] ⟨dX1_laysBases_64, dX1_laysBases_66, rfl⟩ rfl ?_
            refine t_gA C 256 26 70 dX1_laysBases_67 rfl rfl rfl rfl rfl q2244 (fun _ _ _ => rfl) ?_
            refine t_b C (pc' := 73) (L' := [(4, vI m10), (0, vA (some o)), (1, vI s1), (2, vI (s1 / 8)), (3, vI (jrem s1 8))]) (st' := [vI m10, vI s1, vA (some (o + 1 + 26))]) [(.iload_n 1, 1), (.iload 4, 2)] ⟨dX1_laysBases_70, dX1_laysBases_71, rfl⟩ rfl ?_
            obtain ⟨J13, hw, hJ13⟩ := tjn.out hw
            have kj12 : ∀ (x15 : Int32) (T16 : TS), J13 x15 T16 → K 86 [(0, vA (some o)), (1, vI s1), (2, vI (s1 / 8)), (3, vI (jrem s1 8)), (4, vI m10)] [vI x15, vI s1, vA (some (o + 1 + 26))] T16 := by
              intro x15 T16 hj
              replace hw := hJ13 x15 T16 hj
              refine t_iast C 87 dX1_laysBases_86 rfl hw.1 (fun T17 eT17 => ?_)
              replace hw := hw.2 T17 eT17
              refine t_b C (pc' := 88) (L' := [(0, vA (some o)), (1, vI s1), (2, vI (s1 / 8)), (3, vI (jrem s1 8)), (4, vI m10)]) (st' := [vA (some o)]) [(.aload_n 0, 1)] ⟨dX1_laysBases_87, rfl⟩ rfl ?_
              refine t_gA C 257 27 91 dX1_laysBases_88 rfl rfl rfl rfl rfl q2245 (fun _ _ _ => rfl) ?_
              refine t_b C (pc' := 94) (L' := [(0, vA (some o)), (1, vI s1), (2, vI (s1 / 8)), (3, vI (jrem s1 8)), (4, vI m10)]) (st' := [vI m10, vI s1, vA (some (o + 1 + 27))]) [(.iload_n 1, 1), (.iload 4, 2)] ⟨dX1_laysBases_91, dX1_laysBases_92, rfl⟩ rfl ?_
              refine t_if_eq C 120 97 dX1_laysBases_94 rfl rfl (fun hc18 => ?_) (fun hc18 => ?_)
              · replace hw := hw.1 hc18
                refine t_b C (pc' := 121) (L' := [(0, vA (some o)), (1, vI s1), (2, vI (s1 / 8)), (3, vI (jrem s1 8)), (4, vI m10)]) (st' := [vI (jrem s1 8), vI s1, vA (some (o + 1 + 27))]) [(.iload_n 3, 1)] ⟨dX1_laysBases_120, rfl⟩ rfl ?_
                refine t_iast C 122 dX1_laysBases_121 rfl hw.1 (fun T19 eT19 => ?_)
                replace hw := hw.2 T19 eT19
                refine t_b C (pc' := 125) (L' := [(1, vI (s1 + 1)), (0, vA (some o)), (2, vI (s1 / 8)), (3, vI (jrem s1 8)), (4, vI m10)]) (st' := []) [(.iinc 1 1, 3)] ⟨dX1_laysBases_122, rfl⟩ rfl ?_
                refine t_goto C 2 dX1_laysBases_125 rfl ?_
                refine t_sub C (L' := [(0, vA (some o)), (1, vI (s1 + 1))]) [1, 0] rfl ?_
                obtain ⟨m9, hm9, hw⟩ := hw
                exact ih1 m9 hm9 (s1 + 1) T19 hw
              · replace hw := hw.2 hc18
                refine t_b C (pc' := 98) (L' := [(0, vA (some o)), (1, vI s1), (2, vI (s1 / 8)), (3, vI (jrem s1 8)), (4, vI m10)]) (st' := [vA (some o), vI s1, vA (some (o + 1 + 27))]) [(.aload_n 0, 1)] ⟨dX1_laysBases_97, rfl⟩ rfl ?_
                refine t_gA C 245 21 101 dX1_laysBases_98 rfl rfl rfl rfl rfl q2233 (fun _ _ _ => rfl) ?_
                refine t_b C (pc' := 102) (L' := [(0, vA (some o)), (1, vI s1), (2, vI (s1 / 8)), (3, vI (jrem s1 8)), (4, vI m10)]) (st' := [vI (s1 / 8), vA (some (o + 1 + 21)), vI s1, vA (some (o + 1 + 27))]) [(.iload_n 2, 1)] ⟨dX1_laysBases_101, rfl⟩ rfl ?_
                refine t_iald C 103 dX1_laysBases_102 rfl hw.1 ?_
                replace hw := hw.2
                refine t_b C (pc' := 104) (L' := [(0, vA (some o)), (1, vI s1), (2, vI (s1 / 8)), (3, vI (jrem s1 8)), (4, vI m10)]) (st' := [vI (-1), vI (T17.a 21 (ni (s1 / 8))), vI s1, vA (some (o + 1 + 27))]) [(.iconst (-1), 1)] ⟨dX1_laysBases_103, rfl⟩ rfl ?_
                refine t_icmp_eq C 120 107 dX1_laysBases_104 rfl rfl (fun hc20 => ?_) (fun hc20 => ?_)
                · replace hw := hw.1 hc20
                  refine t_b C (pc' := 121) (L' := [(0, vA (some o)), (1, vI s1), (2, vI (s1 / 8)), (3, vI (jrem s1 8)), (4, vI m10)]) (st' := [vI (jrem s1 8), vI s1, vA (some (o + 1 + 27))]) [(.iload_n 3, 1)] ⟨dX1_laysBases_120, rfl⟩ rfl ?_
                  refine t_iast C 122 dX1_laysBases_121 rfl hw.1 (fun T21 eT21 => ?_)
                  replace hw := hw.2 T21 eT21
                  refine t_b C (pc' := 125) (L' := [(1, vI (s1 + 1)), (0, vA (some o)), (2, vI (s1 / 8)), (3, vI (jrem s1 8)), (4, vI m10)]) (st' := []) [(.iinc 1 1, 3)] ⟨dX1_laysBases_122, rfl⟩ rfl ?_
                  refine t_goto C 2 dX1_laysBases_125 rfl ?_
                  refine t_sub C (L' := [(0, vA (some o)), (1, vI (s1 + 1))]) [1, 0] rfl ?_
                  obtain ⟨m9, hm9, hw⟩ := hw
                  exact ih1 m9 hm9 (s1 + 1) T21 hw
                · replace hw := hw.2 hc20
                  refine t_b C (pc' := 111) (L' := [(0, vA (some o)), (1, vI s1), (2, vI (s1 / 8)), (3, vI (jrem s1 8)), (4, vI m10)]) (st' := [vI (s1 / 8), vA (some o), vI 8, vI s1, vA (some (o + 1 + 27))]) [(.bipush 8, 2), (.aload_n 0, 1), (.iload_n 2, 1)] ⟨dX1_laysBases_107, dX1_laysBases_109, dX1_laysBases_110, rfl⟩ rfl ?_
                  refine t_callVI C 114 [vI (s1 / 8)] [vI 8, vI s1, vA (some (o + 1 + 27))] dX1_laysBases_111 rfl (ok_X1_positionOf hG hw) q2786 q2788 qs136 q159 q2789 hd_X1_positionOf ⟨rfl, rfl, rfl⟩ (fun r23 T22 hw => ?_)
                  refine t_b C (pc' := 117) (L' := [(0, vA (some o)), (1, vI s1), (2, vI (s1 / 8)), (3, vI (jrem s1 8)), (4, vI m10)]) (st' := [vI ((8 * r23) + (jrem s1 8)), vI s1, vA (some (o + 1 + 27))]) [(.imul, 1), (.iload_n 3, 1), (.iadd, 1)] ⟨dX1_laysBases_114, dX1_laysBases_115, dX1_laysBases_116, rfl⟩ rfl ?_
                  refine t_goto C 121 dX1_laysBases_117 rfl ?_
                  refine t_iast C 122 dX1_laysBases_121 rfl hw.1 (fun T24 eT24 => ?_)
                  replace hw := hw.2 T24 eT24
                  refine t_b C (pc' := 125) (L' := [(1, vI (s1 + 1)), (0, vA (some o)), (2, vI (s1 / 8)), (3, vI (jrem s1 8)), (4, vI m10)]) (st' := []) [(.iinc 1 1, 3)] ⟨dX1_laysBases_122, rfl⟩ rfl ?_
                  refine t_goto C 2 dX1_laysBases_125 rfl ?_
                  refine t_sub C (L' := [(0, vA (some o)), (1, vI (s1 + 1))]) [1, 0] rfl ?_
                  obtain ⟨m9, hm9, hw⟩ := hw
                  exact ih1 m9 hm9 (s1 + 1) T24 hw
            refine t_if_eq C 85 76 dX1_laysBases_73 rfl rfl (fun hc14 => ?_) (fun hc14 => ?_)
            · replace hw := hw.1 hc14
              refine t_b C (pc' := 86) (L' := [(4, vI m10), (0, vA (some o)), (1, vI s1), (2, vI (s1 / 8)), (3, vI (jrem s1 8))]) (st' := [vI (s1 / 8), vI s1, vA (some (o + 1 + 26))]) [(.iload_n 2, 1)] ⟨dX1_laysBases_85, rfl⟩ rfl ?_
              refine t_sub C (L' := [(0, vA (some o)), (1, vI s1), (2, vI (s1 / 8)), (3, vI (jrem s1 8)), (4, vI m10)]) [1, 2, 3, 4, 0] rfl ?_
              exact kj12 (s1 / 8) T8 hw
            · replace hw := hw.2 hc14
              refine t_b C (pc' := 77) (L' := [(4, vI m10), (0, vA (some o)), (1, vI s1), (2, vI (s1 / 8)), (3, vI (jrem s1 8))]) (st' := [vA (some o), vI s1, vA (some (o + 1 + 26))]) [(.aload_n 0, 1)] ⟨dX1_laysBases_76, rfl⟩ rfl ?_
              refine t_gA C 245 21 80 dX1_laysBases_77 rfl rfl rfl rfl rfl q2233 (fun _ _ _ => rfl) ?_
              refine t_b C (pc' := 81) (L' := [(4, vI m10), (0, vA (some o)), (1, vI s1), (2, vI (s1 / 8)), (3, vI (jrem s1 8))]) (st' := [vI (s1 / 8), vA (some (o + 1 + 21)), vI s1, vA (some (o + 1 + 26))]) [(.iload_n 2, 1)] ⟨dX1_laysBases_80, rfl⟩ rfl ?_
              refine t_iald C 82 dX1_laysBases_81 rfl hw.1 ?_
              replace hw := hw.2
              refine t_goto C 86 dX1_laysBases_82 rfl ?_
              refine t_sub C (L' := [(0, vA (some o)), (1, vI s1), (2, vI (s1 / 8)), (3, vI (jrem s1 8)), (4, vI m10)]) [1, 2, 3, 4, 0] rfl ?_
              exact kj12 (T8.a 21 (ni (s1 / 8))) T8 hw
          refine t_icmp_ge C 63 59 dX1_laysBases_56 rfl rfl (fun hc25 => ?_) (fun hc25 => ?_)
          · refine t_b C (pc' := 64) (L' := [(3, vI (jrem s1 8)), (2, vI (s1 / 8)), (0, vA (some o)), (1, vI s1)]) (st' := [vI 0]) [(.iconst 0, 1)] ⟨dX1_laysBases_63, rfl⟩ rfl ?_
            refine t_sub C (L' := [(0, vA (some o)), (1, vI s1), (2, vI (s1 / 8)), (3, vI (jrem s1 8))]) [2, 3, 1, 0] rfl ?_
            exact kj11 _ ((if_pos hc25).symm)
          · refine t_b C (pc' := 60) (L' := [(3, vI (jrem s1 8)), (2, vI (s1 / 8)), (0, vA (some o)), (1, vI s1)]) (st' := [vI 1]) [(.iconst 1, 1)] ⟨dX1_laysBases_59, rfl⟩ rfl ?_
            refine t_goto C 64 dX1_laysBases_60 rfl ?_
            refine t_sub C (L' := [(0, vA (some o)), (1, vI s1), (2, vI (s1 / 8)), (3, vI (jrem s1 8))]) [2, 3, 1, 0] rfl ?_
            exact kj11 _ ((if_neg hc25).symm)
        · replace hw := hw.1 hc7
          refine t_goto C 122 dX1_laysBases_40 rfl ?_
          refine t_b C (pc' := 125) (L' := [(1, vI (s1 + 1)), (3, vI (jrem s1 8)), (2, vI (s1 / 8)), (0, vA (some o))]) (st' := []) [(.iinc 1 1, 3)] ⟨dX1_laysBases_122, rfl⟩ rfl ?_
          refine t_goto C 2 dX1_laysBases_125 rfl ?_
          refine t_sub C (L' := [(0, vA (some o)), (1, vI (s1 + 1))]) [3, 0] rfl ?_
          obtain ⟨m9, hm9, hw⟩ := hw
          exact ih1 m9 hm9 (s1 + 1) T6 hw
  exact key1 n1 0 T hI1
def wp_X1_laysKnots  (T : TS) (Q : TS → Prop) : Prop :=
  tlp (σ := Int32) (fun s1 T2 k1 =>
  ((320 ≤ s1 →
  Q T2) ∧ (¬ 320 ≤ s1 →
  tix 29 40 s1 ∧
  ∀ T4, T4 = T2.sa 29 (ni s1) (-1) →
  tix 36 42 s1 ∧
  (((T4.a 36 (ni s1)) = 0 →
  k1 (s1 + 1) T4) ∧ (¬ (T4.a 36 (ni s1)) = 0 →
  wp_X1_bit 35 s1 s1 T4 fun r7 T6 =>
  ((r7 = 0 →
  k1 (s1 + 1) T6) ∧ (¬ r7 = 0 →
  tlp (σ := Int32) (fun s9 T10 k9 =>
  tix 36 42 s9 ∧
  (((T10.a 36 (ni s9)) = 0 →
  k9 (s9 + 1) T10) ∧ (¬ (T10.a 36 (ni s9)) = 0 →
  wp_X1_bit 35 s1 s9 T10 fun r13 T12 =>
  ((r13 = 0 →
  k9 (s9 + 1) T12) ∧ (¬ r13 = 0 →
  wp_X1_bit 35 s9 s1 T12 fun r16 T15 =>
  ((r16 = 0 →
  k9 (s9 + 1) T15) ∧ (¬ r16 = 0 →
  tix 29 40 s1 ∧
  ∀ T18, T18 = T15.sa 29 (ni s1) s9 →
  k1 (s1 + 1) T18))))))) 0 T6))))))) 0 T
theorem hd_X1_laysKnots : yX1_laysKnots.cls = RX1 ∧ yX1_laysKnots.cls ≠ "java/lang/invoke/MethodHandle" ∧ yX1_laysKnots.cls ≠ "java/lang/invoke/VarHandle" ∧ (parseMethodDescriptor yX1_laysKnots.desc).map (fun d => d.parameters.length) = some 0 := by decide +kernel
theorem ok_X1_laysKnots {l : Launch} {D : va_G} {s0 : S0} (hG : G0 D s0) {o : Nat}  {T : TS} {Q : TS → Prop} (hw : wp_X1_laysKnots  T Q) : OKt l D s0 o yX1_laysKnots cX1_laysKnots 3 none 1 22 [vA (some o)] T (TV Q) := by
  refine t_met hG rfl rfl (L0 := [(0, vA (some o))]) rfl rfl ?_
  intro h K C
  unfold wp_X1_laysKnots at hw
  refine t_b C (pc' := 2) (L' := [(1, vI 0), (0, vA (some o))]) (st' := []) [(.iconst 0, 1), (.istore_n 1, 1)] ⟨dX1_laysKnots_0, dX1_laysKnots_1, rfl⟩ rfl ?_
  obtain ⟨I1, ⟨n1, hI1⟩, hB1⟩ := tlp.out hw
  refine t_sub C (L' := [(0, vA (some o)), (1, vI 0)]) [1, 0] rfl ?_
  have key1 : ∀ (n : Nat) (s1 : Int32) (T2 : TS), I1 n s1 T2 → K 2 [(0, vA (some o)), (1, vI s1)] [] T2 := by
    intro n
    induction n using Nat.strongRecOn with
    | ind n ih1 =>
      intro s1 T2 hI
      replace hw := hB1 n s1 T2 hI
      refine t_b C (pc' := 6) (L' := [(0, vA (some o)), (1, vI s1)]) (st' := [vI 320, vI s1]) [(.iload_n 1, 1), (.sipush 320, 3)] ⟨dX1_laysKnots_2, dX1_laysKnots_3, rfl⟩ rfl ?_
      refine t_icmp_ge C 94 9 dX1_laysKnots_6 rfl rfl (fun hc3 => ?_) (fun hc3 => ?_)
      · replace hw := hw.1 hc3
        exact t_vret C dX1_laysKnots_94 ⟨rfl, hw⟩
      · replace hw := hw.2 hc3
        refine t_b C (pc' := 10) (L' := [(0, vA (some o)), (1, vI s1)]) (st' := [vA (some o)]) [(.aload_n 0, 1)] ⟨dX1_laysKnots_9, rfl⟩ rfl ?_
        refine t_gA C 259 29 13 dX1_laysKnots_10 rfl rfl rfl rfl rfl q2247 (fun _ _ _ => rfl) ?_
        refine t_b C (pc' := 15) (L' := [(0, vA (some o)), (1, vI s1)]) (st' := [vI (-1), vI s1, vA (some (o + 1 + 29))]) [(.iload_n 1, 1), (.iconst (-1), 1)] ⟨dX1_laysKnots_13, dX1_laysKnots_14, rfl⟩ rfl ?_
        refine t_iast C 16 dX1_laysKnots_15 rfl hw.1 (fun T4 eT4 => ?_)
        replace hw := hw.2 T4 eT4
        refine t_b C (pc' := 17) (L' := [(0, vA (some o)), (1, vI s1)]) (st' := [vA (some o)]) [(.aload_n 0, 1)] ⟨dX1_laysKnots_16, rfl⟩ rfl ?_
        refine t_gA C 266 36 20 dX1_laysKnots_17 rfl rfl rfl rfl rfl q2254 (fun _ _ _ => rfl) ?_
        refine t_b C (pc' := 21) (L' := [(0, vA (some o)), (1, vI s1)]) (st' := [vI s1, vA (some (o + 1 + 36))]) [(.iload_n 1, 1)] ⟨dX1_laysKnots_20, rfl⟩ rfl ?_
        refine t_zald C 22 dX1_laysKnots_21 rfl hw.1 ?_
        replace hw := hw.2
        refine t_if_eq C 88 25 dX1_laysKnots_22 rfl rfl (fun hc5 => ?_) (fun hc5 => ?_)
        · replace hw := hw.1 hc5
          refine t_b C (pc' := 91) (L' := [(1, vI (s1 + 1)), (0, vA (some o))]) (st' := []) [(.iinc 1 1, 3)] ⟨dX1_laysKnots_88, rfl⟩ rfl ?_
          refine t_goto C 2 dX1_laysKnots_91 rfl ?_
          refine t_sub C (L' := [(0, vA (some o)), (1, vI (s1 + 1))]) [1, 0] rfl ?_
          obtain ⟨m9, hm9, hw⟩ := hw
          exact ih1 m9 hm9 (s1 + 1) T4 hw
        · replace hw := hw.2 hc5
          refine t_b C (pc' := 26) (L' := [(0, vA (some o)), (1, vI s1)]) (st' := [vA (some o)]) [(.aload_n 0, 1)] ⟨dX1_laysKnots_25, rfl⟩ rfl ?_
          refine t_gA C 265 35 29 dX1_laysKnots_26 rfl rfl rfl rfl rfl q2253 (fun _ _ _ => rfl) ?_
          refine t_b C (pc' := 31) (L' := [(0, vA (some o)), (1, vI s1)]) (st' := [vI s1, vI s1, vA (some (o + 1 + 35))]) [(.iload_n 1, 1), (.iload_n 1, 1)] ⟨dX1_laysKnots_29, dX1_laysKnots_30, rfl⟩ rfl ?_
          refine t_callSI C 34 [vA (some (o + 1 + 35)), vI s1, vI s1] [] dX1_laysKnots_31 rfl (ok_X1_bit hG hw) q2806 q2807 q159 q2808 hd_X1_bit ⟨rfl, rfl, rfl⟩ (fun r7 T6 hw => ?_)
          refine t_if_ne C 40 37 dX1_laysKnots_34 rfl rfl (fun hc8 => ?_) (fun hc8 => ?_)
          · replace hw := hw.2 hc8
            refine t_b C (pc' := 42) (L' := [(2, vI 0), (0, vA (some o)), (1, vI s1)]) (st' := []) [(.iconst 0, 1), (.istore_n 2, 1)] ⟨dX1_laysKnots_40, dX1_laysKnots_41, rfl⟩ rfl ?_
            obtain ⟨I9, ⟨n9, hI9⟩, hB9⟩ := tlp.out hw
            refine t_sub C (L' := [(0, vA (some o)), (1, vI s1), (2, vI 0)]) [1, 2, 0] rfl ?_
            have key9 : ∀ (n : Nat) (s9 : Int32) (T10 : TS), I9 n s9 T10 → K 42 [(0, vA (some o)), (1, vI s1), (2, vI s9)] [] T10 := by
              intro n
              induction n using Nat.strongRecOn with
              | ind n ih9 =>
                intro s9 T10 hI
                replace hw := hB9 n s9 T10 hI
                refine t_b C (pc' := 43) (L' := [(0, vA (some o)), (1, vI s1), (2, vI s9)]) (st' := [vA (some o)]) [(.aload_n 0, 1)] ⟨dX1_laysKnots_42, rfl⟩ rfl ?_
                refine t_gA C 266 36 46 dX1_laysKnots_43 rfl rfl rfl rfl rfl q2254 (fun _ _ _ => rfl) ?_
                refine t_b C (pc' := 47) (L' := [(0, vA (some o)), (1, vI s1), (2, vI s9)]) (st' := [vI s9, vA (some (o + 1 + 36))]) [(.iload_n 2, 1)] ⟨dX1_laysKnots_46, rfl⟩ rfl ?_
                refine t_zald C 48 dX1_laysKnots_47 rfl hw.1 ?_
                replace hw := hw.2
                refine t_if_eq C 75 51 dX1_laysKnots_48 rfl rfl (fun hc11 => ?_) (fun hc11 => ?_)
                · replace hw := hw.1 hc11
                  refine t_b C (pc' := 78) (L' := [(2, vI (s9 + 1)), (0, vA (some o)), (1, vI s1)]) (st' := []) [(.iinc 2 1, 3)] ⟨dX1_laysKnots_75, rfl⟩ rfl ?_
                  refine t_goto C 42 dX1_laysKnots_78 rfl ?_
                  refine t_sub C (L' := [(0, vA (some o)), (1, vI s1), (2, vI (s9 + 1))]) [1, 2, 0] rfl ?_
                  obtain ⟨m9, hm9, hw⟩ := hw
                  exact ih9 m9 hm9 (s9 + 1) T10 hw
                · replace hw := hw.2 hc11
                  refine t_b C (pc' := 52) (L' := [(0, vA (some o)), (1, vI s1), (2, vI s9)]) (st' := [vA (some o)]) [(.aload_n 0, 1)] ⟨dX1_laysKnots_51, rfl⟩ rfl ?_
                  refine t_gA C 265 35 55 dX1_laysKnots_52 rfl rfl rfl rfl rfl q2253 (fun _ _ _ => rfl) ?_
                  refine t_b C (pc' := 57) (L' := [(0, vA (some o)), (1, vI s1), (2, vI s9)]) (st' := [vI s9, vI s1, vA (some (o + 1 + 35))]) [(.iload_n 1, 1), (.iload_n 2, 1)] ⟨dX1_laysKnots_55, dX1_laysKnots_56, rfl⟩ rfl ?_
                  refine t_callSI C 60 [vA (some (o + 1 + 35)), vI s1, vI s9] [] dX1_laysKnots_57 rfl (ok_X1_bit hG hw) q2806 q2807 q159 q2808 hd_X1_bit ⟨rfl, rfl, rfl⟩ (fun r13 T12 hw => ?_)
                  refine t_if_eq C 75 63 dX1_laysKnots_60 rfl rfl (fun hc14 => ?_) (fun hc14 => ?_)
                  · replace hw := hw.1 hc14
                    refine t_b C (pc' := 78) (L' := [(2, vI (s9 + 1)), (0, vA (some o)), (1, vI s1)]) (st' := []) [(.iinc 2 1, 3)] ⟨dX1_laysKnots_75, rfl⟩ rfl ?_
                    refine t_goto C 42 dX1_laysKnots_78 rfl ?_
                    refine t_sub C (L' := [(0, vA (some o)), (1, vI s1), (2, vI (s9 + 1))]) [1, 2, 0] rfl ?_
                    obtain ⟨m9, hm9, hw⟩ := hw
                    exact ih9 m9 hm9 (s9 + 1) T12 hw
                  · replace hw := hw.2 hc14
                    refine t_b C (pc' := 64) (L' := [(0, vA (some o)), (1, vI s1), (2, vI s9)]) (st' := [vA (some o)]) [(.aload_n 0, 1)] ⟨dX1_laysKnots_63, rfl⟩ rfl ?_
                    refine t_gA C 265 35 67 dX1_laysKnots_64 rfl rfl rfl rfl rfl q2253 (fun _ _ _ => rfl) ?_
                    refine t_b C (pc' := 69) (L' := [(0, vA (some o)), (1, vI s1), (2, vI s9)]) (st' := [vI s1, vI s9, vA (some (o + 1 + 35))]) [(.iload_n 2, 1), (.iload_n 1, 1)] ⟨dX1_laysKnots_67, dX1_laysKnots_68, rfl⟩ rfl ?_
                    refine t_callSI C 72 [vA (some (o + 1 + 35)), vI s9, vI s1] [] dX1_laysKnots_69 rfl (ok_X1_bit hG hw) q2806 q2807 q159 q2808 hd_X1_bit ⟨rfl, rfl, rfl⟩ (fun r16 T15 hw => ?_)
                    refine t_if_ne C 81 75 dX1_laysKnots_72 rfl rfl (fun hc17 => ?_) (fun hc17 => ?_)
                    · replace hw := hw.2 hc17
                      refine t_b C (pc' := 82) (L' := [(0, vA (some o)), (1, vI s1), (2, vI s9)]) (st' := [vA (some o)]) [(.aload_n 0, 1)] ⟨dX1_laysKnots_81, rfl⟩ rfl ?_
                      refine t_gA C 259 29 85 dX1_laysKnots_82 rfl rfl rfl rfl rfl q2247 (fun _ _ _ => rfl) ?_
                      refine t_b C (pc' := 87) (L' := [(0, vA (some o)), (1, vI s1), (2, vI s9)]) (st' := [vI s9, vI s1, vA (some (o + 1 + 29))]) [(.iload_n 1, 1), (.iload_n 2, 1)] ⟨dX1_laysKnots_85, dX1_laysKnots_86, rfl⟩ rfl ?_
                      refine t_iast C 88 dX1_laysKnots_87 rfl hw.1 (fun T18 eT18 => ?_)
                      replace hw := hw.2 T18 eT18
                      refine t_b C (pc' := 91) (L' := [(1, vI (s1 + 1)), (0, vA (some o)), (2, vI s9)]) (st' := []) [(.iinc 1 1, 3)] ⟨dX1_laysKnots_88, rfl⟩ rfl ?_
                      refine t_goto C 2 dX1_laysKnots_91 rfl ?_
                      refine t_sub C (L' := [(0, vA (some o)), (1, vI (s1 + 1))]) [1, 0] rfl ?_
                      obtain ⟨m9, hm9, hw⟩ := hw
                      exact ih1 m9 hm9 (s1 + 1) T18 hw
                    · replace hw := hw.1 hc17
                      refine t_b C (pc' := 78) (L' := [(2, vI (s9 + 1)), (0, vA (some o)), (1, vI s1)]) (st' := []) [(.iinc 2 1, 3)] ⟨dX1_laysKnots_75, rfl⟩ rfl ?_
                      refine t_goto C 42 dX1_laysKnots_78 rfl ?_
                      refine t_sub C (L' := [(0, vA (some o)), (1, vI s1), (2, vI (s9 + 1))]) [1, 2, 0] rfl ?_
                      obtain ⟨m9, hm9, hw⟩ := hw
                      exact ih9 m9 hm9 (s9 + 1) T15 hw
            exact key9 n9 0 T6 hI9
          · replace hw := hw.1 hc8
            refine t_goto C 88 dX1_laysKnots_37 rfl ?_
            refine t_b C (pc' := 91) (L' := [(1, vI (s1 + 1)), (0, vA (some o))]) (st' := []) [(.iinc 1 1, 3)] ⟨dX1_laysKnots_88, rfl⟩ rfl ?_
            refine t_goto C 2 dX1_laysKnots_91 rfl ?_
            refine t_sub C (L' := [(0, vA (some o)), (1, vI (s1 + 1))]) [1, 0] rfl ?_
            obtain ⟨m9, hm9, hw⟩ := hw
            exact ih1 m9 hm9 (s1 + 1) T6 hw
  exact key1 n1 0 T hI1
def wp_X1_instanceOf (p0 : Int32) (p1 : Int32) (T : TS) (Q : Int32 → TS → Prop) : Prop :=
  ((8 ≤ p1 →
  wp_X1_child p0 ((p1 / 8) - 1) T fun r3 T2 =>
  Q ((8 * r3) + (jrem p1 8)) T2) ∧ (¬ 8 ≤ p1 →
  Q ((8 * p0) + p1) T))
theorem hd_X1_instanceOf : yX1_instanceOf.cls = RX1 ∧ yX1_instanceOf.cls ≠ "java/lang/invoke/MethodHandle" ∧ yX1_instanceOf.cls ≠ "java/lang/invoke/VarHandle" ∧ (parseMethodDescriptor yX1_instanceOf.desc).map (fun d => d.parameters.length) = some 2 := by decide +kernel
theorem ok_X1_instanceOf {l : Launch} {D : va_G} {s0 : S0} (hG : G0 D s0) {o : Nat} {p0 : Int32} {p1 : Int32} {T : TS} {Q : Int32 → TS → Prop} (hw : wp_X1_instanceOf p0 p1 T Q) : OKt l D s0 o yX1_instanceOf cX1_instanceOf 3 (some .int) 1 24 [vA (some o), vI p0, vI p1] T (TI Q) := by
  refine t_met hG rfl rfl (L0 := [(0, vA (some o)), (1, vI p0), (2, vI p1)]) rfl rfl ?_
  intro h K C
  unfold wp_X1_instanceOf at hw
  refine t_b C (pc' := 3) (L' := [(0, vA (some o)), (1, vI p0), (2, vI p1)]) (st' := [vI 8, vI p1]) [(.iload_n 2, 1), (.bipush 8, 2)] ⟨dX1_instanceOf_0, dX1_instanceOf_1, rfl⟩ rfl ?_
  refine t_icmp_ge C 15 6 dX1_instanceOf_3 rfl rfl (fun hc1 => ?_) (fun hc1 => ?_)
  · replace hw := hw.1 hc1
    refine t_b C (pc' := 25) (L' := [(0, vA (some o)), (1, vI p0), (2, vI p1)]) (st' := [vI ((p1 / 8) - 1), vI p0, vA (some o), vI 8]) [(.bipush 8, 2), (.aload_n 0, 1), (.iload_n 1, 1), (.iload_n 2, 1), (.bipush 8, 2), (.idiv, 1), (.iconst 1, 1), (.isub, 1)] ⟨dX1_instanceOf_15, dX1_instanceOf_17, dX1_instanceOf_18, dX1_instanceOf_19, dX1_instanceOf_20, dX1_instanceOf_22, dX1_instanceOf_23, dX1_instanceOf_24, rfl⟩ rfl ?_
    refine t_callVI C 28 [vI p0, vI ((p1 / 8) - 1)] [vI 8] dX1_instanceOf_25 rfl (ok_X1_child hG hw) q2802 q2804 qs140 q159 q2805 hd_X1_child ⟨rfl, rfl, rfl⟩ (fun r3 T2 hw => ?_)
    refine t_b C (pc' := 34) (L' := [(0, vA (some o)), (1, vI p0), (2, vI p1)]) (st' := [vI ((8 * r3) + (jrem p1 8))]) [(.imul, 1), (.iload_n 2, 1), (.bipush 8, 2), (.irem, 1), (.iadd, 1)] ⟨dX1_instanceOf_28, dX1_instanceOf_29, dX1_instanceOf_30, dX1_instanceOf_32, dX1_instanceOf_33, rfl⟩ rfl ?_
    exact t_iret C dX1_instanceOf_34 ⟨_, rfl, hw⟩
  · replace hw := hw.2 hc1
    refine t_b C (pc' := 12) (L' := [(0, vA (some o)), (1, vI p0), (2, vI p1)]) (st' := [vI ((8 * p0) + p1)]) [(.bipush 8, 2), (.iload_n 1, 1), (.imul, 1), (.iload_n 2, 1), (.iadd, 1)] ⟨dX1_instanceOf_6, dX1_instanceOf_8, dX1_instanceOf_9, dX1_instanceOf_10, dX1_instanceOf_11, rfl⟩ rfl ?_
    refine t_goto C 34 dX1_instanceOf_12 rfl ?_
    exact t_iret C dX1_instanceOf_34 ⟨_, rfl, hw⟩
def wp_X1_laysReach  (T : TS) (Q : TS → Prop) : Prop :=
  tlp (σ := Int32) (fun s1 T2 k1 =>
  ((3200 ≤ s1 →
  tlp (σ := Int32) (fun s4 T5 k4 =>
  ((320 ≤ s4 →
  tlp (σ := Int32) (fun s7 T8 k7 =>
  ((3200 ≤ s7 →
  tlp (σ := Int32) (fun s10 T11 k10 =>
  (((8 * (T11.s 250)) ≤ s10 →
  Q T11) ∧ (¬ (8 * (T11.s 250)) ≤ s10 →
  tlp (σ := Int32) (fun s13 T14 k13 =>
  (((8 * (T14.s 250)) ≤ s13 →
  k10 (s10 + 1) T14) ∧ (¬ (8 * (T14.s 250)) ≤ s13 →
  wp_X1_bit 35 s13 s10 T14 fun r17 T16 =>
  ((r17 = 0 →
  k13 (s13 + 1) T16) ∧ (¬ r17 = 0 →
  tlp (σ := Int32) (fun s19 T20 k19 =>
  ((10 ≤ s19 →
  k13 (s13 + 1) T20) ∧ (¬ 10 ≤ s19 →
  tix 35 40 ((10 * s13) + s19) ∧
  tix 35 40 ((10 * s10) + s19) ∧
  tix 35 40 ((10 * s13) + s19) ∧
  ∀ T22, T22 = T20.sa 35 (ni ((10 * s13) + s19)) ((T20.a 35 (ni ((10 * s13) + s19))) ||| (T20.a 35 (ni ((10 * s10) + s19)))) →
  k19 (s19 + 1) T22))) 0 T16))))) 0 T11))) 0 T8) ∧ (¬ 3200 ≤ s7 →
  tix 34 40 s7 ∧
  tix 35 40 s7 ∧
  ∀ T23, T23 = T8.sa 35 (ni s7) (T8.a 34 (ni s7)) →
  k7 (s7 + 1) T23))) 0 T5) ∧ (¬ 320 ≤ s4 →
  tix 36 42 s4 ∧
  (((T5.a 36 (ni s4)) = 0 →
  k4 (s4 + 1) T5) ∧ (¬ (T5.a 36 (ni s4)) = 0 →
  wp_X1_asksOf s4 T5 fun r26 T25 =>
  tlp (σ := Int32) (fun s27 T28 k27 =>
  ((32 ≤ s27 →
  k4 (s4 + 1) T28) ∧ (¬ 32 ≤ s27 →
  wp_X1_has r26 s27 T28 fun r31 T30 =>
  ((r31 = 0 →
  k27 (s27 + 1) T30) ∧ (¬ r31 = 0 →
  tix 26 40 s4 ∧
  wp_X1_instanceOf (T30.a 26 (ni s4)) s27 T30 fun r34 T33 =>
  tix 34 40 ((10 * s4) + (r34 / 32)) ∧
  tix 34 40 ((10 * s4) + (r34 / 32)) ∧
  ∀ T35, T35 = T33.sa 34 (ni ((10 * s4) + (r34 / 32))) ((T33.a 34 (ni ((10 * s4) + (r34 / 32)))) ||| (jshl 1 (jrem r34 32))) →
  k27 (s27 + 1) T35))))) 0 T25))))) 0 T2) ∧ (¬ 3200 ≤ s1 →
  tix 34 40 s1 ∧
  ∀ T36, T36 = T2.sa 34 (ni s1) 0 →
  k1 (s1 + 1) T36))) 0 T
theorem hd_X1_laysReach : yX1_laysReach.cls = RX1 ∧ yX1_laysReach.cls ≠ "java/lang/invoke/MethodHandle" ∧ yX1_laysReach.cls ≠ "java/lang/invoke/VarHandle" ∧ (parseMethodDescriptor yX1_laysReach.desc).map (fun d => d.parameters.length) = some 0 := by decide +kernel
theorem ok_X1_laysReach {l : Launch} {D : va_G} {s0 : S0} (hG : G0 D s0) {o : Nat}  {T : TS} {Q : TS → Prop} (hw : wp_X1_laysReach  T Q) : OKt l D s0 o yX1_laysReach cX1_laysReach 5 none 2 46 [vA (some o)] T (TV Q) := by
  refine t_met hG rfl rfl (L0 := [(0, vA (some o))]) rfl rfl ?_
  intro h K C
  unfold wp_X1_laysReach at hw
  refine t_b C (pc' := 2) (L' := [(1, vI 0), (0, vA (some o))]) (st' := []) [(.iconst 0, 1), (.istore_n 1, 1)] ⟨dX1_laysReach_0, dX1_laysReach_1, rfl⟩ rfl ?_
  obtain ⟨I1, ⟨n1, hI1⟩, hB1⟩ := tlp.out hw
  refine t_sub C (L' := [(0, vA (some o)), (1, vI 0)]) [1, 0] rfl ?_
  have key1 : ∀ (n : Nat) (s1 : Int32) (T2 : TS), I1 n s1 T2 → K 2 [(0, vA (some o)), (1, vI s1)] [] T2 := by
    intro n
    induction n using Nat.strongRecOn with
    | ind n ih1 =>
      intro s1 T2 hI
      replace hw := hB1 n s1 T2 hI
      refine t_b C (pc' := 6) (L' := [(0, vA (some o)), (1, vI s1)]) (st' := [vI 3200, vI s1]) [(.iload_n 1, 1), (.sipush 3200, 3)] ⟨dX1_laysReach_2, dX1_laysReach_3, rfl⟩ rfl ?_
      refine t_icmp_ge C 22 9 dX1_laysReach_6 rfl rfl (fun hc3 => ?_) (fun hc3 => ?_)
      · replace hw := hw.1 hc3
        refine t_b C (pc' := 24) (L' := [(1, vI 0), (0, vA (some o))]) (st' := []) [(.iconst 0, 1), (.istore_n 1, 1)] ⟨dX1_laysReach_22, dX1_laysReach_23, rfl⟩ rfl ?_
        obtain ⟨I4, ⟨n4, hI4⟩, hB4⟩ := tlp.out hw
        refine t_sub C (L' := [(0, vA (some o)), (1, vI 0)]) [1, 0] rfl ?_
        have key4 : ∀ (n : Nat) (s4 : Int32) (T5 : TS), I4 n s4 T5 → K 24 [(0, vA (some o)), (1, vI s4)] [] T5 := by
          intro n
          induction n using Nat.strongRecOn with
          | ind n ih4 =>
            intro s4 T5 hI
            replace hw := hB4 n s4 T5 hI
            refine t_b C (pc' := 28) (L' := [(0, vA (some o)), (1, vI s4)]) (st' := [vI 320, vI s4]) [(.iload_n 1, 1), (.sipush 320, 3)] ⟨dX1_laysReach_24, dX1_laysReach_25, rfl⟩ rfl ?_
            refine t_icmp_ge C 118 31 dX1_laysReach_28 rfl rfl (fun hc6 => ?_) (fun hc6 => ?_)
            · replace hw := hw.1 hc6
              refine t_b C (pc' := 120) (L' := [(1, vI 0), (0, vA (some o))]) (st' := []) [(.iconst 0, 1), (.istore_n 1, 1)] ⟨dX1_laysReach_118, dX1_laysReach_119, rfl⟩ rfl ?_
              obtain ⟨I7, ⟨n7, hI7⟩, hB7⟩ := tlp.out hw
              refine t_sub C (L' := [(0, vA (some o)), (1, vI 0)]) [1, 0] rfl ?_
              have key7 : ∀ (n : Nat) (s7 : Int32) (T8 : TS), I7 n s7 T8 → K 120 [(0, vA (some o)), (1, vI s7)] [] T8 := by
                intro n
                induction n using Nat.strongRecOn with
                | ind n ih7 =>
                  intro s7 T8 hI
                  replace hw := hB7 n s7 T8 hI
                  refine t_b C (pc' := 124) (L' := [(0, vA (some o)), (1, vI s7)]) (st' := [vI 3200, vI s7]) [(.iload_n 1, 1), (.sipush 3200, 3)] ⟨dX1_laysReach_120, dX1_laysReach_121, rfl⟩ rfl ?_
                  refine t_icmp_ge C 145 127 dX1_laysReach_124 rfl rfl (fun hc9 => ?_) (fun hc9 => ?_)
                  · replace hw := hw.1 hc9
                    refine t_b C (pc' := 147) (L' := [(1, vI 0), (0, vA (some o))]) (st' := []) [(.iconst 0, 1), (.istore_n 1, 1)] ⟨dX1_laysReach_145, dX1_laysReach_146, rfl⟩ rfl ?_
                    obtain ⟨I10, ⟨n10, hI10⟩, hB10⟩ := tlp.out hw
                    refine t_sub C (L' := [(0, vA (some o)), (1, vI 0)]) [1, 0] rfl ?_
                    have key10 : ∀ (n : Nat) (s10 : Int32) (T11 : TS), I10 n s10 T11 → K 147 [(0, vA (some o)), (1, vI s10)] [] T11 := by
                      intro n
                      induction n using Nat.strongRecOn with
                      | ind n ih10 =>
                        intro s10 T11 hI
                        replace hw := hB10 n s10 T11 hI
                        refine t_b C (pc' := 151) (L' := [(0, vA (some o)), (1, vI s10)]) (st' := [vA (some o), vI 8, vI s10]) [(.iload_n 1, 1), (.bipush 8, 2), (.aload_n 0, 1)] ⟨dX1_laysReach_147, dX1_laysReach_148, dX1_laysReach_150, rfl⟩ rfl ?_
                        refine t_gI C 250 154 dX1_laysReach_151 rfl rfl rfl q2238 (fun _ _ _ => rfl) ?_
                        refine t_b C (pc' := 155) (L' := [(0, vA (some o)), (1, vI s10)]) (st' := [vI (8 * (T11.s 250)), vI s10]) [(.imul, 1)] ⟨dX1_laysReach_154, rfl⟩ rfl ?_
                        refine t_icmp_ge C 234 158 dX1_laysReach_155 rfl rfl (fun hc12 => ?_) (fun hc12 => ?_)
                        · replace hw := hw.1 hc12
                          exact t_vret C dX1_laysReach_234 ⟨rfl, hw⟩
                        · replace hw := hw.2 hc12
                          refine t_b C (pc' := 160) (L' := [(2, vI 0), (0, vA (some o)), (1, vI s10)]) (st' := []) [(.iconst 0, 1), (.istore_n 2, 1)] ⟨dX1_laysReach_158, dX1_laysReach_159, rfl⟩ rfl ?_
                          obtain ⟨I13, ⟨n13, hI13⟩, hB13⟩ := tlp.out hw
                          refine t_sub C (L' := [(0, vA (some o)), (1, vI s10), (2, vI 0)]) [1, 2, 0] rfl ?_
                          have key13 : ∀ (n : Nat) (s13 : Int32) (T14 : TS), I13 n s13 T14 → K 160 [(0, vA (some o)), (1, vI s10), (2, vI s13)] [] T14 := by
                            intro n
                            induction n using Nat.strongRecOn with
                            | ind n ih13 =>
                              intro s13 T14 hI
                              replace hw := hB13 n s13 T14 hI
                              refine t_b C (pc' := 164) (L' := [(0, vA (some o)), (1, vI s10), (2, vI s13)]) (st' := [vA (some o), vI 8, vI s13]) [(.iload_n 2, 1), (.bipush 8, 2), (.aload_n 0, 1)] ⟨dX1_laysReach_160, dX1_laysReach_161, dX1_laysReach_163, rfl⟩ rfl ?_
                              refine t_gI C 250 167 dX1_laysReach_164 rfl rfl rfl q2238 (fun _ _ _ => rfl) ?_
                              refine t_b C (pc' := 168) (L' := [(0, vA (some o)), (1, vI s10), (2, vI s13)]) (st' := [vI (8 * (T14.s 250)), vI s13]) [(.imul, 1)] ⟨dX1_laysReach_167, rfl⟩ rfl ?_
                              refine t_icmp_ge C 228 171 dX1_laysReach_168 rfl rfl (fun hc15 => ?_) (fun hc15 => ?_)
                              · replace hw := hw.1 hc15
                                refine t_b C (pc' := 231) (L' := [(1, vI (s10 + 1)), (0, vA (some o)), (2, vI s13)]) (st' := []) [(.iinc 1 1, 3)] ⟨dX1_laysReach_228, rfl⟩ rfl ?_
                                refine t_goto C 147 dX1_laysReach_231 rfl ?_
                                refine t_sub C (L' := [(0, vA (some o)), (1, vI (s10 + 1))]) [1, 0] rfl ?_
                                obtain ⟨m9, hm9, hw⟩ := hw
                                exact ih10 m9 hm9 (s10 + 1) T14 hw
                              · replace hw := hw.2 hc15
                                refine t_b C (pc' := 172) (L' := [(0, vA (some o)), (1, vI s10), (2, vI s13)]) (st' := [vA (some o)]) [(.aload_n 0, 1)] ⟨dX1_laysReach_171, rfl⟩ rfl ?_
                                refine t_gA C 265 35 175 dX1_laysReach_172 rfl rfl rfl rfl rfl q2253 (fun _ _ _ => rfl) ?_
                                refine t_b C (pc' := 177) (L' := [(0, vA (some o)), (1, vI s10), (2, vI s13)]) (st' := [vI s10, vI s13, vA (some (o + 1 + 35))]) [(.iload_n 2, 1), (.iload_n 1, 1)] ⟨dX1_laysReach_175, dX1_laysReach_176, rfl⟩ rfl ?_
                                refine t_callSI C 180 [vA (some (o + 1 + 35)), vI s13, vI s10] [] dX1_laysReach_177 rfl (ok_X1_bit hG hw) q2806 q2807 q159 q2808 hd_X1_bit ⟨rfl, rfl, rfl⟩ (fun r17 T16 hw => ?_)
                                refine t_if_eq C 222 183 dX1_laysReach_180 rfl rfl (fun hc18 => ?_) (fun hc18 => ?_)
                                · replace hw := hw.1 hc18
                                  refine t_b C (pc' := 225) (L' := [(2, vI (s13 + 1)), (0, vA (some o)), (1, vI s10)]) (st' := []) [(.iinc 2 1, 3)] ⟨dX1_laysReach_222, rfl⟩ rfl ?_
                                  refine t_goto C 160 dX1_laysReach_225 rfl ?_
                                  refine t_sub C (L' := [(0, vA (some o)), (1, vI s10), (2, vI (s13 + 1))]) [1, 2, 0] rfl ?_
                                  obtain ⟨m9, hm9, hw⟩ := hw
                                  exact ih13 m9 hm9 (s13 + 1) T16 hw
                                · replace hw := hw.2 hc18
                                  refine t_b C (pc' := 185) (L' := [(3, vI 0), (0, vA (some o)), (1, vI s10), (2, vI s13)]) (st' := []) [(.iconst 0, 1), (.istore_n 3, 1)] ⟨dX1_laysReach_183, dX1_laysReach_184, rfl⟩ rfl ?_
                                  obtain ⟨I19, ⟨n19, hI19⟩, hB19⟩ := tlp.out hw
                                  refine t_sub C (L' := [(0, vA (some o)), (1, vI s10), (2, vI s13), (3, vI 0)]) [1, 2, 3, 0] rfl ?_
                                  have key19 : ∀ (n : Nat) (s19 : Int32) (T20 : TS), I19 n s19 T20 → K 185 [(0, vA (some o)), (1, vI s10), (2, vI s13), (3, vI s19)] [] T20 := by
                                    intro n
                                    induction n using Nat.strongRecOn with
                                    | ind n ih19 =>
                                      intro s19 T20 hI
                                      replace hw := hB19 n s19 T20 hI
                                      refine t_b C (pc' := 188) (L' := [(0, vA (some o)), (1, vI s10), (2, vI s13), (3, vI s19)]) (st' := [vI 10, vI s19]) [(.iload_n 3, 1), (.bipush 10, 2)] ⟨dX1_laysReach_185, dX1_laysReach_186, rfl⟩ rfl ?_
                                      refine t_icmp_ge C 222 191 dX1_laysReach_188 rfl rfl (fun hc21 => ?_) (fun hc21 => ?_)
                                      · replace hw := hw.1 hc21
                                        refine t_b C (pc' := 225) (L' := [(2, vI (s13 + 1)), (0, vA (some o)), (1, vI s10), (3, vI s19)]) (st' := []) [(.iinc 2 1, 3)] ⟨dX1_laysReach_222, rfl⟩ rfl ?_
                                        refine t_goto C 160 dX1_laysReach_225 rfl ?_
                                        refine t_sub C (L' := [(0, vA (some o)), (1, vI s10), (2, vI (s13 + 1))]) [1, 2, 0] rfl ?_
                                        obtain ⟨m9, hm9, hw⟩ := hw
                                        exact ih13 m9 hm9 (s13 + 1) T20 hw
                                      · replace hw := hw.2 hc21
                                        refine t_b C (pc' := 192) (L' := [(0, vA (some o)), (1, vI s10), (2, vI s13), (3, vI s19)]) (st' := [vA (some o)]) [(.aload_n 0, 1)] ⟨dX1_laysReach_191, rfl⟩ rfl ?_
                                        refine t_gA C 265 35 195 dX1_laysReach_192 rfl rfl rfl rfl rfl q2253 (fun _ _ _ => rfl) ?_
                                        refine t_b C (pc' := 202) (L' := [(0, vA (some o)), (1, vI s10), (2, vI s13), (3, vI s19)]) (st' := [vI ((10 * s13) + s19), vA (some (o + 1 + 35)), vI ((10 * s13) + s19), vA (some (o + 1 + 35))]) [(.bipush 10, 2), (.iload_n 2, 1), (.imul, 1), (.iload_n 3, 1), (.iadd, 1), (.dup2, 1)] ⟨dX1_laysReach_195, dX1_laysReach_197, dX1_laysReach_198, dX1_laysReach_199, dX1_laysReach_200, dX1_laysReach_201, rfl⟩ rfl ?_
                                        refine t_iald C 203 dX1_laysReach_202 rfl hw.1 ?_
                                        replace hw := hw.2
                                        refine t_b C (pc' := 204) (L' := [(0, vA (some o)), (1, vI s10), (2, vI s13), (3, vI s19)]) (st' := [vA (some o), vI (T20.a 35 (ni ((10 * s13) + s19))), vI ((10 * s13) + s19), vA (some (o + 1 + 35))]) [(.aload_n 0, 1)] ⟨dX1_laysReach_203, rfl⟩ rfl ?_
                                        refine t_gA C 265 35 207 dX1_laysReach_204 rfl rfl rfl rfl rfl q2253 (fun _ _ _ => rfl) ?_
                                        refine t_b C (pc' := 213) (L' := [(0, vA (some o)), (1, vI s10), (2, vI s13), (3, vI s19)]) (st' := [vI ((10 * s10) + s19), vA (some (o + 1 + 35)), vI (T20.a 35 (ni ((10 * s13) + s19))), vI ((10 * s13) + s19), vA (some (o + 1 + 35))]) [(.bipush 10, 2), (.iload_n 1, 1), (.imul, 1), (.iload_n 3, 1), (.iadd, 1)] ⟨dX1_laysReach_207, dX1_laysReach_209, dX1_laysReach_210, dX1_laysReach_211, dX1_laysReach_212, rfl⟩ rfl ?_
                                        refine t_iald C 214 dX1_laysReach_213 rfl hw.1 ?_
                                        replace hw := hw.2
                                        refine t_b C (pc' := 215) (L' := [(0, vA (some o)), (1, vI s10), (2, vI s13), (3, vI s19)]) (st' := [vI ((T20.a 35 (ni ((10 * s13) + s19))) ||| (T20.a 35 (ni ((10 * s10) + s19)))), vI ((10 * s13) + s19), vA (some (o + 1 + 35))]) [(.ior, 1)] ⟨dX1_laysReach_214, rfl⟩ rfl ?_
                                        refine t_iast C 216 dX1_laysReach_215 rfl hw.1 (fun T22 eT22 => ?_)
                                        replace hw := hw.2 T22 eT22
                                        refine t_b C (pc' := 219) (L' := [(3, vI (s19 + 1)), (0, vA (some o)), (1, vI s10), (2, vI s13)]) (st' := []) [(.iinc 3 1, 3)] ⟨dX1_laysReach_216, rfl⟩ rfl ?_
                                        refine t_goto C 185 dX1_laysReach_219 rfl ?_
                                        refine t_sub C (L' := [(0, vA (some o)), (1, vI s10), (2, vI s13), (3, vI (s19 + 1))]) [1, 2, 3, 0] rfl ?_
                                        obtain ⟨m9, hm9, hw⟩ := hw
                                        exact ih19 m9 hm9 (s19 + 1) T22 hw
                                  exact key19 n19 0 T16 hI19
                          exact key13 n13 0 T11 hI13
                    exact key10 n10 0 T8 hI10
                  · replace hw := hw.2 hc9
                    refine t_b C (pc' := 128) (L' := [(0, vA (some o)), (1, vI s7)]) (st' := [vA (some o)]) [(.aload_n 0, 1)] ⟨dX1_laysReach_127, rfl⟩ rfl ?_
                    refine t_gA C 265 35 131 dX1_laysReach_128 rfl rfl rfl rfl rfl q2253 (fun _ _ _ => rfl) ?_
                    refine t_b C (pc' := 133) (L' := [(0, vA (some o)), (1, vI s7)]) (st' := [vA (some o), vI s7, vA (some (o + 1 + 35))]) [(.iload_n 1, 1), (.aload_n 0, 1)] ⟨dX1_laysReach_131, dX1_laysReach_132, rfl⟩ rfl ?_
                    refine t_gA C 264 34 136 dX1_laysReach_133 rfl rfl rfl rfl rfl q2252 (fun _ _ _ => rfl) ?_
                    refine t_b C (pc' := 137) (L' := [(0, vA (some o)), (1, vI s7)]) (st' := [vI s7, vA (some (o + 1 + 34)), vI s7, vA (some (o + 1 + 35))]) [(.iload_n 1, 1)] ⟨dX1_laysReach_136, rfl⟩ rfl ?_
                    refine t_iald C 138 dX1_laysReach_137 rfl hw.1 ?_
                    replace hw := hw.2
                    refine t_iast C 139 dX1_laysReach_138 rfl hw.1 (fun T23 eT23 => ?_)
                    replace hw := hw.2 T23 eT23
                    refine t_b C (pc' := 142) (L' := [(1, vI (s7 + 1)), (0, vA (some o))]) (st' := []) [(.iinc 1 1, 3)] ⟨dX1_laysReach_139, rfl⟩ rfl ?_
                    refine t_goto C 120 dX1_laysReach_142 rfl ?_
                    refine t_sub C (L' := [(0, vA (some o)), (1, vI (s7 + 1))]) [1, 0] rfl ?_
                    obtain ⟨m9, hm9, hw⟩ := hw
                    exact ih7 m9 hm9 (s7 + 1) T23 hw
              exact key7 n7 0 T5 hI7
            · replace hw := hw.2 hc6
              refine t_b C (pc' := 32) (L' := [(0, vA (some o)), (1, vI s4)]) (st' := [vA (some o)]) [(.aload_n 0, 1)] ⟨dX1_laysReach_31, rfl⟩ rfl ?_
              refine t_gA C 266 36 35 dX1_laysReach_32 rfl rfl rfl rfl rfl q2254 (fun _ _ _ => rfl) ?_
              refine t_b C (pc' := 36) (L' := [(0, vA (some o)), (1, vI s4)]) (st' := [vI s4, vA (some (o + 1 + 36))]) [(.iload_n 1, 1)] ⟨dX1_laysReach_35, rfl⟩ rfl ?_
              refine t_zald C 37 dX1_laysReach_36 rfl hw.1 ?_
              replace hw := hw.2
              refine t_if_ne C 43 40 dX1_laysReach_37 rfl rfl (fun hc24 => ?_) (fun hc24 => ?_)
              · replace hw := hw.2 hc24
                refine t_b C (pc' := 45) (L' := [(0, vA (some o)), (1, vI s4)]) (st' := [vI s4, vA (some o)]) [(.aload_n 0, 1), (.iload_n 1, 1)] ⟨dX1_laysReach_43, dX1_laysReach_44, rfl⟩ rfl ?_
                refine t_callVI C 48 [vI s4] [] dX1_laysReach_45 rfl (ok_X1_asksOf hG hw) q2794 q2796 qs138 q159 q2797 hd_X1_asksOf ⟨rfl, rfl, rfl⟩ (fun r26 T25 hw => ?_)
                refine t_b C (pc' := 51) (L' := [(3, vI 0), (2, vI r26), (0, vA (some o)), (1, vI s4)]) (st' := []) [(.istore_n 2, 1), (.iconst 0, 1), (.istore_n 3, 1)] ⟨dX1_laysReach_48, dX1_laysReach_49, dX1_laysReach_50, rfl⟩ rfl ?_
                obtain ⟨I27, ⟨n27, hI27⟩, hB27⟩ := tlp.out hw
                refine t_sub C (L' := [(0, vA (some o)), (1, vI s4), (2, vI r26), (3, vI 0)]) [2, 3, 1, 0] rfl ?_
                have key27 : ∀ (n : Nat) (s27 : Int32) (T28 : TS), I27 n s27 T28 → K 51 [(0, vA (some o)), (1, vI s4), (2, vI r26), (3, vI s27)] [] T28 := by
                  intro n
                  induction n using Nat.strongRecOn with
                  | ind n ih27 =>
                    intro s27 T28 hI
                    replace hw := hB27 n s27 T28 hI
                    refine t_b C (pc' := 54) (L' := [(0, vA (some o)), (1, vI s4), (2, vI r26), (3, vI s27)]) (st' := [vI 32, vI s27]) [(.iload_n 3, 1), (.bipush 32, 2)] ⟨dX1_laysReach_51, dX1_laysReach_52, rfl⟩ rfl ?_
                    refine t_icmp_ge C 112 57 dX1_laysReach_54 rfl rfl (fun hc29 => ?_) (fun hc29 => ?_)
                    · replace hw := hw.1 hc29
                      refine t_b C (pc' := 115) (L' := [(1, vI (s4 + 1)), (0, vA (some o)), (2, vI r26), (3, vI s27)]) (st' := []) [(.iinc 1 1, 3)] ⟨dX1_laysReach_112, rfl⟩ rfl ?_
                      refine t_goto C 24 dX1_laysReach_115 rfl ?_
                      refine t_sub C (L' := [(0, vA (some o)), (1, vI (s4 + 1))]) [1, 0] rfl ?_
                      obtain ⟨m9, hm9, hw⟩ := hw
                      exact ih4 m9 hm9 (s4 + 1) T28 hw
                    · replace hw := hw.2 hc29
                      refine t_b C (pc' := 59) (L' := [(0, vA (some o)), (1, vI s4), (2, vI r26), (3, vI s27)]) (st' := [vI s27, vI r26]) [(.iload_n 2, 1), (.iload_n 3, 1)] ⟨dX1_laysReach_57, dX1_laysReach_58, rfl⟩ rfl ?_
                      refine t_callSI C 62 [vI r26, vI s27] [] dX1_laysReach_59 rfl (ok_X1_has hG hw) q2586 q2587 q159 q2588 hd_X1_has ⟨rfl, rfl, rfl⟩ (fun r31 T30 hw => ?_)
                      refine t_if_ne C 68 65 dX1_laysReach_62 rfl rfl (fun hc32 => ?_) (fun hc32 => ?_)
                      · replace hw := hw.2 hc32
                        refine t_b C (pc' := 70) (L' := [(0, vA (some o)), (1, vI s4), (2, vI r26), (3, vI s27)]) (st' := [vA (some o), vA (some o)]) [(.aload_n 0, 1), (.aload_n 0, 1)] ⟨dX1_laysReach_68, dX1_laysReach_69, rfl⟩ rfl ?_
                        refine t_gA C 256 26 73 dX1_laysReach_70 rfl rfl rfl rfl rfl q2244 (fun _ _ _ => rfl) ?_
                        refine t_b C (pc' := 74) (L' := [(0, vA (some o)), (1, vI s4), (2, vI r26), (3, vI s27)]) (st' := [vI s4, vA (some (o + 1 + 26)), vA (some o)]) [(.iload_n 1, 1)] ⟨dX1_laysReach_73, rfl⟩ rfl ?_
                        refine t_iald C 75 dX1_laysReach_74 rfl hw.1 ?_
                        replace hw := hw.2
                        refine t_b C (pc' := 76) (L' := [(0, vA (some o)), (1, vI s4), (2, vI r26), (3, vI s27)]) (st' := [vI s27, vI (T30.a 26 (ni s4)), vA (some o)]) [(.iload_n 3, 1)] ⟨dX1_laysReach_75, rfl⟩ rfl ?_
                        refine t_callVI C 79 [vI (T30.a 26 (ni s4)), vI s27] [] dX1_laysReach_76 rfl (ok_X1_instanceOf hG hw) q2798 q2800 qs139 q159 q2801 hd_X1_instanceOf ⟨rfl, rfl, rfl⟩ (fun r34 T33 hw => ?_)
                        refine t_b C (pc' := 82) (L' := [(4, vI r34), (0, vA (some o)), (1, vI s4), (2, vI r26), (3, vI s27)]) (st' := [vA (some o)]) [(.istore 4, 2), (.aload_n 0, 1)] ⟨dX1_laysReach_79, dX1_laysReach_81, rfl⟩ rfl ?_
                        refine t_gA C 264 34 85 dX1_laysReach_82 rfl rfl rfl rfl rfl q2252 (fun _ _ _ => rfl) ?_
                        refine t_b C (pc' := 96) (L' := [(4, vI r34), (0, vA (some o)), (1, vI s4), (2, vI r26), (3, vI s27)]) (st' := [vI ((10 * s4) + (r34 / 32)), vA (some (o + 1 + 34)), vI ((10 * s4) + (r34 / 32)), vA (some (o + 1 + 34))]) [(.bipush 10, 2), (.iload_n 1, 1), (.imul, 1), (.iload 4, 2), (.bipush 32, 2), (.idiv, 1), (.iadd, 1), (.dup2, 1)] ⟨dX1_laysReach_85, dX1_laysReach_87, dX1_laysReach_88, dX1_laysReach_89, dX1_laysReach_91, dX1_laysReach_93, dX1_laysReach_94, dX1_laysReach_95, rfl⟩ rfl ?_
                        refine t_iald C 97 dX1_laysReach_96 rfl hw.1 ?_
                        replace hw := hw.2
                        refine t_b C (pc' := 105) (L' := [(4, vI r34), (0, vA (some o)), (1, vI s4), (2, vI r26), (3, vI s27)]) (st' := [vI ((T33.a 34 (ni ((10 * s4) + (r34 / 32)))) ||| (jshl 1 (jrem r34 32))), vI ((10 * s4) + (r34 / 32)), vA (some (o + 1 + 34))]) [(.iconst 1, 1), (.iload 4, 2), (.bipush 32, 2), (.irem, 1), (.ishl, 1), (.ior, 1)] ⟨dX1_laysReach_97, dX1_laysReach_98, dX1_laysReach_100, dX1_laysReach_102, dX1_laysReach_103, dX1_laysReach_104, rfl⟩ rfl ?_
                        refine t_iast C 106 dX1_laysReach_105 rfl hw.1 (fun T35 eT35 => ?_)
                        replace hw := hw.2 T35 eT35
                        refine t_b C (pc' := 109) (L' := [(3, vI (s27 + 1)), (4, vI r34), (0, vA (some o)), (1, vI s4), (2, vI r26)]) (st' := []) [(.iinc 3 1, 3)] ⟨dX1_laysReach_106, rfl⟩ rfl ?_
                        refine t_goto C 51 dX1_laysReach_109 rfl ?_
                        refine t_sub C (L' := [(0, vA (some o)), (1, vI s4), (2, vI r26), (3, vI (s27 + 1))]) [2, 3, 4, 0] rfl ?_
                        obtain ⟨m9, hm9, hw⟩ := hw
                        exact ih27 m9 hm9 (s27 + 1) T35 hw
                      · replace hw := hw.1 hc32
                        refine t_goto C 106 dX1_laysReach_65 rfl ?_
                        refine t_b C (pc' := 109) (L' := [(3, vI (s27 + 1)), (0, vA (some o)), (1, vI s4), (2, vI r26)]) (st' := []) [(.iinc 3 1, 3)] ⟨dX1_laysReach_106, rfl⟩ rfl ?_
                        refine t_goto C 51 dX1_laysReach_109 rfl ?_
                        refine t_sub C (L' := [(0, vA (some o)), (1, vI s4), (2, vI r26), (3, vI (s27 + 1))]) [1, 2, 3, 0] rfl ?_
                        obtain ⟨m9, hm9, hw⟩ := hw
                        exact ih27 m9 hm9 (s27 + 1) T30 hw
                exact key27 n27 0 T25 hI27
              · replace hw := hw.1 hc24
                refine t_goto C 112 dX1_laysReach_40 rfl ?_
                refine t_b C (pc' := 115) (L' := [(1, vI (s4 + 1)), (0, vA (some o))]) (st' := []) [(.iinc 1 1, 3)] ⟨dX1_laysReach_112, rfl⟩ rfl ?_
                refine t_goto C 24 dX1_laysReach_115 rfl ?_
                refine t_sub C (L' := [(0, vA (some o)), (1, vI (s4 + 1))]) [1, 0] rfl ?_
                obtain ⟨m9, hm9, hw⟩ := hw
                exact ih4 m9 hm9 (s4 + 1) T5 hw
        exact key4 n4 0 T2 hI4
      · replace hw := hw.2 hc3
        refine t_b C (pc' := 10) (L' := [(0, vA (some o)), (1, vI s1)]) (st' := [vA (some o)]) [(.aload_n 0, 1)] ⟨dX1_laysReach_9, rfl⟩ rfl ?_
        refine t_gA C 264 34 13 dX1_laysReach_10 rfl rfl rfl rfl rfl q2252 (fun _ _ _ => rfl) ?_
        refine t_b C (pc' := 15) (L' := [(0, vA (some o)), (1, vI s1)]) (st' := [vI 0, vI s1, vA (some (o + 1 + 34))]) [(.iload_n 1, 1), (.iconst 0, 1)] ⟨dX1_laysReach_13, dX1_laysReach_14, rfl⟩ rfl ?_
        refine t_iast C 16 dX1_laysReach_15 rfl hw.1 (fun T36 eT36 => ?_)
        replace hw := hw.2 T36 eT36
        refine t_b C (pc' := 19) (L' := [(1, vI (s1 + 1)), (0, vA (some o))]) (st' := []) [(.iinc 1 1, 3)] ⟨dX1_laysReach_16, rfl⟩ rfl ?_
        refine t_goto C 2 dX1_laysReach_19 rfl ?_
        refine t_sub C (L' := [(0, vA (some o)), (1, vI (s1 + 1))]) [1, 0] rfl ?_
        obtain ⟨m9, hm9, hw⟩ := hw
        exact ih1 m9 hm9 (s1 + 1) T36 hw
  exact key1 n1 0 T hI1
def wp_X1_joined (p0 : Int32) (p1 : Int32) (p2 : Int32) (T : TS) (Q : Int32 → TS → Prop) : Prop :=
  (((p0 = 4) →
  Q (if p1 < p2 then p2 else p1) T) ∧ (¬ (p0 = 4) →
  (((p0 = 38) →
  Q (p1 &&& p2) T) ∧ (¬ (p0 = 38) →
  (((p0 = 42) →
  Q (p1 * p2) T) ∧ (¬ (p0 = 42) →
  (((p0 = 43) →
  Q (p1 + p2) T) ∧ (¬ (p0 = 43) →
  (((p0 = 45) →
  Q (p1 - p2) T) ∧ (¬ (p0 = 45) →
  (((p0 = 60) →
  ∀ m12 : Int32, m12 = (if p2 ≤ p1 then 0 else 1) →
  Q m12 T) ∧ (¬ (p0 = 60) →
  (((p0 = 124) →
  Q (p1 ||| p2) T) ∧ (¬ (p0 = 124) →
  Q (if p2 < p1 then p2 else p1) T))))))))))))))
theorem hd_X1_joined : yX1_joined.cls ≠ "java/lang/invoke/MethodHandle" ∧ yX1_joined.cls ≠ "java/lang/invoke/VarHandle" ∧ (parseMethodDescriptor yX1_joined.desc).map (fun d => d.parameters.length) = some 3 := by decide +kernel
theorem ok_X1_joined {l : Launch} {D : va_G} {s0 : S0} (hG : G0 D s0) {o : Nat} {p0 : Int32} {p1 : Int32} {p2 : Int32} {T : TS} {Q : Int32 → TS → Prop} (hw : wp_X1_joined p0 p1 p2 T Q) : OKt l D s0 o yX1_joined cX1_joined 3 (some .int) 1 21 [vI p0, vI p1, vI p2] T (TI Q) := by
  refine t_met hG rfl rfl (L0 := [(0, vI p0), (1, vI p1), (2, vI p2)]) rfl rfl ?_
  intro h K C
  unfold wp_X1_joined at hw
  refine t_b C (pc' := 1) (L' := [(0, vI p0), (1, vI p1), (2, vI p2)]) (st' := [vI p0]) [(.iload_n 0, 1)] ⟨dX1_joined_0, rfl⟩ rfl ?_
  have ks1 : (p0 = 4) → K 99 [(0, vI p0), (1, vI p1), (2, vI p2)] [] T := by
    intro hcc
    replace hw := hw.1 hcc
    refine t_b C (pc' := 101) (L' := [(0, vI p0), (1, vI p1), (2, vI p2)]) (st' := [vI p2, vI p1]) [(.iload_n 1, 1), (.iload_n 2, 1)] ⟨dX1_joined_99, dX1_joined_100, rfl⟩ rfl ?_
    refine t_mmax C 104 [] dX1_joined_101 rfl q2828 q375 q166 q376 ⟨rfl, rfl⟩ ?_
    exact t_iret C dX1_joined_104 ⟨_, rfl, hw⟩
  by_cases hs2 : (p0 = 4)
  · refine t_lookIn C (v := 4) 99 dX1_joined_1 hs2 rfl rfl rfl ?_
    exact ks1 hs2
  replace hw := hw.2 hs2
  have ks3 : (p0 = 38) → K 84 [(0, vI p0), (1, vI p1), (2, vI p2)] [] T := by
    intro hcc
    replace hw := hw.1 hcc
    refine t_b C (pc' := 87) (L' := [(0, vI p0), (1, vI p1), (2, vI p2)]) (st' := [vI (p1 &&& p2)]) [(.iload_n 1, 1), (.iload_n 2, 1), (.iand, 1)] ⟨dX1_joined_84, dX1_joined_85, dX1_joined_86, rfl⟩ rfl ?_
    exact t_iret C dX1_joined_87 ⟨_, rfl, hw⟩
  by_cases hs4 : (p0 = 38)
  · refine t_lookIn C (v := 38) 84 dX1_joined_1 hs4 rfl rfl rfl ?_
    exact ks3 hs4
  replace hw := hw.2 hs4
  have ks5 : (p0 = 42) → K 76 [(0, vI p0), (1, vI p1), (2, vI p2)] [] T := by
    intro hcc
    replace hw := hw.1 hcc
    refine t_b C (pc' := 79) (L' := [(0, vI p0), (1, vI p1), (2, vI p2)]) (st' := [vI (p1 * p2)]) [(.iload_n 1, 1), (.iload_n 2, 1), (.imul, 1)] ⟨dX1_joined_76, dX1_joined_77, dX1_joined_78, rfl⟩ rfl ?_
    exact t_iret C dX1_joined_79 ⟨_, rfl, hw⟩
  by_cases hs6 : (p0 = 42)
  · refine t_lookIn C (v := 42) 76 dX1_joined_1 hs6 rfl rfl rfl ?_
    exact ks5 hs6
  replace hw := hw.2 hs6
  have ks7 : (p0 = 43) → K 68 [(0, vI p0), (1, vI p1), (2, vI p2)] [] T := by
    intro hcc
    replace hw := hw.1 hcc
    refine t_b C (pc' := 71) (L' := [(0, vI p0), (1, vI p1), (2, vI p2)]) (st' := [vI (p1 + p2)]) [(.iload_n 1, 1), (.iload_n 2, 1), (.iadd, 1)] ⟨dX1_joined_68, dX1_joined_69, dX1_joined_70, rfl⟩ rfl ?_
    exact t_iret C dX1_joined_71 ⟨_, rfl, hw⟩
  by_cases hs8 : (p0 = 43)
  · refine t_lookIn C (v := 43) 68 dX1_joined_1 hs8 rfl rfl rfl ?_
    exact ks7 hs8
  replace hw := hw.2 hs8
  have ks9 : (p0 = 45) → K 72 [(0, vI p0), (1, vI p1), (2, vI p2)] [] T := by
    intro hcc
    replace hw := hw.1 hcc
    refine t_b C (pc' := 75) (L' := [(0, vI p0), (1, vI p1), (2, vI p2)]) (st' := [vI (p1 - p2)]) [(.iload_n 1, 1), (.iload_n 2, 1), (.isub, 1)] ⟨dX1_joined_72, dX1_joined_73, dX1_joined_74, rfl⟩ rfl ?_
    exact t_iret C dX1_joined_75 ⟨_, rfl, hw⟩
  by_cases hs10 : (p0 = 45)
  · refine t_lookIn C (v := 45) 72 dX1_joined_1 hs10 rfl rfl rfl ?_
    exact ks9 hs10
  replace hw := hw.2 hs10
  have ks11 : (p0 = 60) → K 88 [(0, vI p0), (1, vI p1), (2, vI p2)] [] T := by
    intro hcc
    replace hw := hw.1 hcc
    refine t_b C (pc' := 90) (L' := [(0, vI p0), (1, vI p1), (2, vI p2)]) (st' := [vI p2, vI p1]) [(.iload_n 1, 1), (.iload_n 2, 1)] ⟨dX1_joined_88, dX1_joined_89, rfl⟩ rfl ?_
    have kj13 : ∀ (m12 : Int32), m12 = (if p2 ≤ p1 then 0 else 1) → K 98 [] [vI m12] T := by
      intro m12 em12
      replace hw := hw m12 em12
      exact t_iret C dX1_joined_98 ⟨_, rfl, hw⟩
    refine t_icmp_ge C 97 93 dX1_joined_90 rfl rfl (fun hc14 => ?_) (fun hc14 => ?_)
    · refine t_b C (pc' := 98) (L' := [(0, vI p0), (1, vI p1), (2, vI p2)]) (st' := [vI 0]) [(.iconst 0, 1)] ⟨dX1_joined_97, rfl⟩ rfl ?_
      refine t_sub C (L' := []) [] rfl ?_
      exact kj13 _ ((if_pos hc14).symm)
    · refine t_b C (pc' := 94) (L' := [(0, vI p0), (1, vI p1), (2, vI p2)]) (st' := [vI 1]) [(.iconst 1, 1)] ⟨dX1_joined_93, rfl⟩ rfl ?_
      refine t_goto C 98 dX1_joined_94 rfl ?_
      refine t_sub C (L' := []) [] rfl ?_
      exact kj13 _ ((if_neg hc14).symm)
  by_cases hs15 : (p0 = 60)
  · refine t_lookIn C (v := 60) 88 dX1_joined_1 hs15 rfl rfl rfl ?_
    exact ks11 hs15
  replace hw := hw.2 hs15
  have ks16 : (p0 = 124) → K 80 [(0, vI p0), (1, vI p1), (2, vI p2)] [] T := by
    intro hcc
    replace hw := hw.1 hcc
    refine t_b C (pc' := 83) (L' := [(0, vI p0), (1, vI p1), (2, vI p2)]) (st' := [vI (p1 ||| p2)]) [(.iload_n 1, 1), (.iload_n 2, 1), (.ior, 1)] ⟨dX1_joined_80, dX1_joined_81, dX1_joined_82, rfl⟩ rfl ?_
    exact t_iret C dX1_joined_83 ⟨_, rfl, hw⟩
  by_cases hs17 : (p0 = 124)
  · refine t_lookIn C (v := 124) 80 dX1_joined_1 hs17 rfl rfl rfl ?_
    exact ks16 hs17
  replace hw := hw.2 hs17
  refine t_lookOut C 105 dX1_joined_1 rfl (lo_cons (lv_neT hs2 (by decide)) (lo_cons (lv_neT hs4 (by decide)) (lo_cons (lv_neT hs6 (by decide)) (lo_cons (lv_neT hs8 (by decide)) (lo_cons (lv_neT hs10 (by decide)) (lo_cons (lv_neT hs15 (by decide)) (lo_cons (lv_neT hs17 (by decide)) lo_nil))))))) rfl ?_
  refine t_b C (pc' := 107) (L' := [(0, vI p0), (1, vI p1), (2, vI p2)]) (st' := [vI p2, vI p1]) [(.iload_n 1, 1), (.iload_n 2, 1)] ⟨dX1_joined_105, dX1_joined_106, rfl⟩ rfl ?_
  refine t_mmin C 110 [] dX1_joined_107 rfl q2685 q393 q166 q394 ⟨rfl, rfl⟩ ?_
  exact t_iret C dX1_joined_110 ⟨_, rfl, hw⟩
def wp_X1_worked (p0 : Int32) (T : TS) (Q : Int32 → TS → Prop) : Prop :=
  tix 26 40 p0 ∧
  (((T.a 26 (ni p0)) = (-1) →
  tix 25 40 (jrem p0 8) ∧
  Q (T.a 25 (ni (jrem p0 8))) T) ∧ (¬ (T.a 26 (ni p0)) = (-1) →
  tix 26 40 p0 ∧
  tix 19 40 (T.a 26 (ni p0)) ∧
  tix 27 40 p0 ∧
  tix 1 40 (80 + ((32 * (T.a 19 (ni (T.a 26 (ni p0))))) + (T.a 27 (ni p0)))) ∧
  tlp (σ := Int32 × Int32) (fun s2 T3 k2 =>
  tix 1 40 (464 + ((32 * (T.a 19 (ni (T.a 26 (ni p0))))) + (T.a 27 (ni p0)))) ∧
  (((T3.a 1 (ni (464 + ((32 * (T.a 19 (ni (T.a 26 (ni p0))))) + (T.a 27 (ni p0)))))) ≤ s2.2 →
  ((s2.1 = 0 →
  Q 0 T3) ∧ (¬ s2.1 = 0 →
  tix 42 40 0 ∧
  Q (T3.a 42 (ni 0)) T3))) ∧ (¬ (T3.a 1 (ni (464 + ((32 * (T.a 19 (ni (T.a 26 (ni p0))))) + (T.a 27 (ni p0)))))) ≤ s2.2 →
  tix 1 40 (1616 + s2.2) ∧
  ((2 < (T3.a 1 (ni (1616 + s2.2))) →
  (((T3.a 1 (ni (1616 + s2.2))) = 3 →
  tix 42 40 ((s2.1 + (-2)) - 1) ∧
  (((T3.a 42 (ni ((s2.1 + (-2)) - 1))) = 0 →
  tix 42 40 ((s2.1 + (-2)) + 1) ∧
  tix 42 40 ((s2.1 + (-2)) - 1) ∧
  ∀ T12, T12 = T3.sa 42 (ni ((s2.1 + (-2)) - 1)) (T3.a 42 (ni ((s2.1 + (-2)) + 1))) →
  k2 ((s2.1 + (-2)), (s2.2 + 1)) T12) ∧ (¬ (T3.a 42 (ni ((s2.1 + (-2)) - 1))) = 0 →
  tix 42 40 (s2.1 + (-2)) ∧
  tix 42 40 ((s2.1 + (-2)) - 1) ∧
  ∀ T13, T13 = T3.sa 42 (ni ((s2.1 + (-2)) - 1)) (T3.a 42 (ni (s2.1 + (-2)))) →
  k2 ((s2.1 + (-2)), (s2.2 + 1)) T13))) ∧ (¬ (T3.a 1 (ni (1616 + s2.2))) = 3 →
  tix 42 40 ((s2.1 + (-1)) - 1) ∧
  tix 42 40 (s2.1 + (-1)) ∧
  wp_X1_joined (T3.a 1 (ni (1616 + s2.2))) (T3.a 42 (ni ((s2.1 + (-1)) - 1))) (T3.a 42 (ni (s2.1 + (-1)))) T3 fun r9 T8 =>
  tix 42 40 ((s2.1 + (-1)) - 1) ∧
  ∀ T10, T10 = T8.sa 42 (ni ((s2.1 + (-1)) - 1)) r9 →
  k2 ((s2.1 + (-1)), (s2.2 + 1)) T10))) ∧ (¬ 2 < (T3.a 1 (ni (1616 + s2.2))) →
  (((T3.a 1 (ni (1616 + s2.2))) = 0 →
  tix 1 40 (2716 + s2.2) ∧
  tix 42 40 s2.1 ∧
  ∀ T20, T20 = T3.sa 42 (ni s2.1) (T3.a 1 (ni (2716 + s2.2))) →
  k2 ((s2.1 + 1), (s2.2 + 1)) T20) ∧ (¬ (T3.a 1 (ni (1616 + s2.2))) = 0 →
  (((T3.a 1 (ni (1616 + s2.2))) = 1 →
  tix 20 40 (T.a 26 (ni p0)) ∧
  tix 42 40 s2.1 ∧
  ∀ T19, T19 = T3.sa 42 (ni s2.1) (T3.a 20 (ni (T.a 26 (ni p0)))) →
  k2 ((s2.1 + 1), (s2.2 + 1)) T19) ∧ (¬ (T3.a 1 (ni (1616 + s2.2))) = 1 →
  tix 1 40 (2716 + s2.2) ∧
  wp_X1_instanceOf (T.a 26 (ni p0)) (T3.a 1 (ni (2716 + s2.2))) T3 fun r17 T16 =>
  tix 28 40 r17 ∧
  tix 42 40 s2.1 ∧
  ∀ T18, T18 = T16.sa 42 (ni s2.1) (T16.a 28 (ni r17)) →
  k2 ((s2.1 + 1), (s2.2 + 1)) T18))))))))) (0, (T.a 1 (ni (80 + ((32 * (T.a 19 (ni (T.a 26 (ni p0))))) + (T.a 27 (ni p0))))))) T))
theorem hd_X1_worked : yX1_worked.cls = RX1 ∧ yX1_worked.cls ≠ "java/lang/invoke/MethodHandle" ∧ yX1_worked.cls ≠ "java/lang/invoke/VarHandle" ∧ (parseMethodDescriptor yX1_worked.desc).map (fun d => d.parameters.length) = some 1 := by decide +kernel
theorem ok_X1_worked {l : Launch} {D : va_G} {s0 : S0} (hG : G0 D s0) {o : Nat} {p0 : Int32} {T : TS} {Q : Int32 → TS → Prop} (hw : wp_X1_worked p0 T Q) : OKt l D s0 o yX1_worked cX1_worked 7 (some .int) 2 46 [vA (some o), vI p0] T (TI Q) := by
  refine t_met hG rfl rfl (L0 := [(0, vA (some o)), (1, vI p0)]) rfl rfl ?_
  intro h K C
  unfold wp_X1_worked at hw
  refine t_b C (pc' := 1) (L' := [(0, vA (some o)), (1, vI p0)]) (st' := [vA (some o)]) [(.aload_n 0, 1)] ⟨dX1_worked_0, rfl⟩ rfl ?_
  refine t_gA C 256 26 4 dX1_worked_1 rfl rfl rfl rfl rfl q2244 (fun _ _ _ => rfl) ?_
  refine t_b C (pc' := 5) (L' := [(0, vA (some o)), (1, vI p0)]) (st' := [vI p0, vA (some (o + 1 + 26))]) [(.iload_n 1, 1)] ⟨dX1_worked_4, rfl⟩ rfl ?_
  refine t_iald C 6 dX1_worked_5 rfl hw.1 ?_
  replace hw := hw.2
  refine t_b C (pc' := 7) (L' := [(0, vA (some o)), (1, vI p0)]) (st' := [vI (-1), vI (T.a 26 (ni p0))]) [(.iconst (-1), 1)] ⟨dX1_worked_6, rfl⟩ rfl ?_
  refine t_icmp_ne C 20 10 dX1_worked_7 rfl rfl (fun hc1 => ?_) (fun hc1 => ?_)
  · replace hw := hw.2 hc1
    refine t_b C (pc' := 21) (L' := [(0, vA (some o)), (1, vI p0)]) (st' := [vA (some o)]) [(.aload_n 0, 1)] ⟨dX1_worked_20, rfl⟩ rfl ?_
    refine t_gA C 256 26 24 dX1_worked_21 rfl rfl rfl rfl rfl q2244 (fun _ _ _ => rfl) ?_
    refine t_b C (pc' := 25) (L' := [(0, vA (some o)), (1, vI p0)]) (st' := [vI p0, vA (some (o + 1 + 26))]) [(.iload_n 1, 1)] ⟨dX1_worked_24, rfl⟩ rfl ?_
    refine t_iald C 26 dX1_worked_25 rfl hw.1 ?_
    replace hw := hw.2
    refine t_b C (pc' := 30) (L' := [(2, vI (T.a 26 (ni p0))), (0, vA (some o)), (1, vI p0)]) (st' := [vA (some o), vI 32]) [(.istore_n 2, 1), (.bipush 32, 2), (.aload_n 0, 1)] ⟨dX1_worked_26, dX1_worked_27, dX1_worked_29, rfl⟩ rfl ?_
    refine t_gA C 243 19 33 dX1_worked_30 rfl rfl rfl rfl rfl q2231 (fun _ _ _ => rfl) ?_
    refine t_b C (pc' := 34) (L' := [(2, vI (T.a 26 (ni p0))), (0, vA (some o)), (1, vI p0)]) (st' := [vI (T.a 26 (ni p0)), vA (some (o + 1 + 19)), vI 32]) [(.iload_n 2, 1)] ⟨dX1_worked_33, rfl⟩ rfl ?_
    refine t_iald C 35 dX1_worked_34 rfl hw.1 ?_
    replace hw := hw.2
    refine t_b C (pc' := 37) (L' := [(2, vI (T.a 26 (ni p0))), (0, vA (some o)), (1, vI p0)]) (st' := [vA (some o), vI (32 * (T.a 19 (ni (T.a 26 (ni p0)))))]) [(.imul, 1), (.aload_n 0, 1)] ⟨dX1_worked_35, dX1_worked_36, rfl⟩ rfl ?_
    refine t_gA C 257 27 40 dX1_worked_37 rfl rfl rfl rfl rfl q2245 (fun _ _ _ => rfl) ?_
    refine t_b C (pc' := 41) (L' := [(2, vI (T.a 26 (ni p0))), (0, vA (some o)), (1, vI p0)]) (st' := [vI p0, vA (some (o + 1 + 27)), vI (32 * (T.a 19 (ni (T.a 26 (ni p0)))))]) [(.iload_n 1, 1)] ⟨dX1_worked_40, rfl⟩ rfl ?_
    refine t_iald C 42 dX1_worked_41 rfl hw.1 ?_
    replace hw := hw.2
    refine t_b C (pc' := 48) (L' := [(4, vI 0), (3, vI ((32 * (T.a 19 (ni (T.a 26 (ni p0))))) + (T.a 27 (ni p0)))), (2, vI (T.a 26 (ni p0))), (0, vA (some o)), (1, vI p0)]) (st' := [vA (some o)]) [(.iadd, 1), (.istore_n 3, 1), (.iconst 0, 1), (.istore 4, 2), (.aload_n 0, 1)] ⟨dX1_worked_42, dX1_worked_43, dX1_worked_44, dX1_worked_45, dX1_worked_47, rfl⟩ rfl ?_
    refine t_gA C 201 1 51 dX1_worked_48 rfl rfl rfl rfl rfl q2189 (fun _ _ _ => rfl) ?_
    refine t_b C (pc' := 55) (L' := [(4, vI 0), (3, vI ((32 * (T.a 19 (ni (T.a 26 (ni p0))))) + (T.a 27 (ni p0)))), (2, vI (T.a 26 (ni p0))), (0, vA (some o)), (1, vI p0)]) (st' := [vI (80 + ((32 * (T.a 19 (ni (T.a 26 (ni p0))))) + (T.a 27 (ni p0)))), vA (some (o + 1 + 1))]) [(.bipush 80, 2), (.iload_n 3, 1), (.iadd, 1)] ⟨dX1_worked_51, dX1_worked_53, dX1_worked_54, rfl⟩ rfl ?_
    refine t_iald C 56 dX1_worked_55 rfl hw.1 ?_
    replace hw := hw.2
    refine t_b C (pc' := 58) (L' := [(5, vI (T.a 1 (ni (80 + ((32 * (T.a 19 (ni (T.a 26 (ni p0))))) + (T.a 27 (ni p0))))))), (4, vI 0), (3, vI ((32 * (T.a 19 (ni (T.a 26 (ni p0))))) + (T.a 27 (ni p0)))), (2, vI (T.a 26 (ni p0))), (0, vA (some o)), (1, vI p0)]) (st' := []) [(.istore 5, 2)] ⟨dX1_worked_56, rfl⟩ rfl ?_
    obtain ⟨I2, ⟨n2, hI2⟩, hB2⟩ := tlp.out hw
    refine t_sub C (L' := [(0, vA (some o)), (2, vI (T.a 26 (ni p0))), (3, vI ((32 * (T.a 19 (ni (T.a 26 (ni p0))))) + (T.a 27 (ni p0)))), (4, vI 0), (5, vI (T.a 1 (ni (80 + ((32 * (T.a 19 (ni (T.a 26 (ni p0))))) + (T.a 27 (ni p0)))))))]) [4, 3, 2, 1, 0] rfl ?_
    have key2 : ∀ (n : Nat) (s2 : Int32 × Int32) (T3 : TS), I2 n s2 T3 → K 58 [(0, vA (some o)), (2, vI (T.a 26 (ni p0))), (3, vI ((32 * (T.a 19 (ni (T.a 26 (ni p0))))) + (T.a 27 (ni p0)))), (4, vI (s2.1)), (5, vI (s2.2))] [] T3 := by
      intro n
      induction n using Nat.strongRecOn with
      | ind n ih2 =>
        intro s2 T3 hI
        replace hw := hB2 n s2 T3 hI
        refine t_b C (pc' := 61) (L' := [(0, vA (some o)), (2, vI (T.a 26 (ni p0))), (3, vI ((32 * (T.a 19 (ni (T.a 26 (ni p0))))) + (T.a 27 (ni p0)))), (4, vI (s2.1)), (5, vI (s2.2))]) (st' := [vA (some o), vI (s2.2)]) [(.iload 5, 2), (.aload_n 0, 1)] ⟨dX1_worked_58, dX1_worked_60, rfl⟩ rfl ?_
        refine t_gA C 201 1 64 dX1_worked_61 rfl rfl rfl rfl rfl q2189 (fun _ _ _ => rfl) ?_
        refine t_b C (pc' := 69) (L' := [(0, vA (some o)), (2, vI (T.a 26 (ni p0))), (3, vI ((32 * (T.a 19 (ni (T.a 26 (ni p0))))) + (T.a 27 (ni p0)))), (4, vI (s2.1)), (5, vI (s2.2))]) (st' := [vI (464 + ((32 * (T.a 19 (ni (T.a 26 (ni p0))))) + (T.a 27 (ni p0)))), vA (some (o + 1 + 1)), vI (s2.2)]) [(.sipush 464, 3), (.iload_n 3, 1), (.iadd, 1)] ⟨dX1_worked_64, dX1_worked_67, dX1_worked_68, rfl⟩ rfl ?_
        refine t_iald C 70 dX1_worked_69 rfl hw.1 ?_
        replace hw := hw.2
        refine t_icmp_ge C 251 73 dX1_worked_70 rfl rfl (fun hc4 => ?_) (fun hc4 => ?_)
        · replace hw := hw.1 hc4
          refine t_b C (pc' := 253) (L' := [(0, vA (some o)), (2, vI (T.a 26 (ni p0))), (3, vI ((32 * (T.a 19 (ni (T.a 26 (ni p0))))) + (T.a 27 (ni p0)))), (4, vI (s2.1)), (5, vI (s2.2))]) (st' := [vI (s2.1)]) [(.iload 4, 2)] ⟨dX1_worked_251, rfl⟩ rfl ?_
          refine t_if_ne C 260 256 dX1_worked_253 rfl rfl (fun hc5 => ?_) (fun hc5 => ?_)
          · replace hw := hw.2 hc5
            refine t_b C (pc' := 261) (L' := [(0, vA (some o)), (2, vI (T.a 26 (ni p0))), (3, vI ((32 * (T.a 19 (ni (T.a 26 (ni p0))))) + (T.a 27 (ni p0)))), (4, vI (s2.1)), (5, vI (s2.2))]) (st' := [vA (some o)]) [(.aload_n 0, 1)] ⟨dX1_worked_260, rfl⟩ rfl ?_
            refine t_gA C 273 42 264 dX1_worked_261 rfl rfl rfl rfl rfl q2261 (fun _ _ _ => rfl) ?_
            refine t_b C (pc' := 265) (L' := [(0, vA (some o)), (2, vI (T.a 26 (ni p0))), (3, vI ((32 * (T.a 19 (ni (T.a 26 (ni p0))))) + (T.a 27 (ni p0)))), (4, vI (s2.1)), (5, vI (s2.2))]) (st' := [vI 0, vA (some (o + 1 + 42))]) [(.iconst 0, 1)] ⟨dX1_worked_264, rfl⟩ rfl ?_
            refine t_iald C 266 dX1_worked_265 rfl hw.1 ?_
            replace hw := hw.2
            exact t_iret C dX1_worked_266 ⟨_, rfl, hw⟩
          · replace hw := hw.1 hc5
            refine t_b C (pc' := 257) (L' := [(0, vA (some o)), (2, vI (T.a 26 (ni p0))), (3, vI ((32 * (T.a 19 (ni (T.a 26 (ni p0))))) + (T.a 27 (ni p0)))), (4, vI (s2.1)), (5, vI (s2.2))]) (st' := [vI 0]) [(.iconst 0, 1)] ⟨dX1_worked_256, rfl⟩ rfl ?_
            refine t_goto C 266 dX1_worked_257 rfl ?_
            exact t_iret C dX1_worked_266 ⟨_, rfl, hw⟩
        · replace hw := hw.2 hc4
          refine t_b C (pc' := 74) (L' := [(0, vA (some o)), (2, vI (T.a 26 (ni p0))), (3, vI ((32 * (T.a 19 (ni (T.a 26 (ni p0))))) + (T.a 27 (ni p0)))), (4, vI (s2.1)), (5, vI (s2.2))]) (st' := [vA (some o)]) [(.aload_n 0, 1)] ⟨dX1_worked_73, rfl⟩ rfl ?_
          refine t_gA C 201 1 77 dX1_worked_74 rfl rfl rfl rfl rfl q2189 (fun _ _ _ => rfl) ?_
          refine t_b C (pc' := 83) (L' := [(0, vA (some o)), (2, vI (T.a 26 (ni p0))), (3, vI ((32 * (T.a 19 (ni (T.a 26 (ni p0))))) + (T.a 27 (ni p0)))), (4, vI (s2.1)), (5, vI (s2.2))]) (st' := [vI (1616 + s2.2), vA (some (o + 1 + 1))]) [(.sipush 1616, 3), (.iload 5, 2), (.iadd, 1)] ⟨dX1_worked_77, dX1_worked_80, dX1_worked_82, rfl⟩ rfl ?_
          refine t_iald C 84 dX1_worked_83 rfl hw.1 ?_
          replace hw := hw.2
          refine t_b C (pc' := 89) (L' := [(6, vI (T3.a 1 (ni (1616 + s2.2)))), (0, vA (some o)), (2, vI (T.a 26 (ni p0))), (3, vI ((32 * (T.a 19 (ni (T.a 26 (ni p0))))) + (T.a 27 (ni p0)))), (4, vI (s2.1)), (5, vI (s2.2))]) (st' := [vI 2, vI (T3.a 1 (ni (1616 + s2.2)))]) [(.istore 6, 2), (.iload 6, 2), (.iconst 2, 1)] ⟨dX1_worked_84, dX1_worked_86, dX1_worked_88, rfl⟩ rfl ?_
          refine t_icmp_gt C 160 92 dX1_worked_89 rfl rfl (fun hc6 => ?_) (fun hc6 => ?_)
          · replace hw := hw.1 hc6
            refine t_b C (pc' := 163) (L' := [(6, vI (T3.a 1 (ni (1616 + s2.2)))), (0, vA (some o)), (2, vI (T.a 26 (ni p0))), (3, vI ((32 * (T.a 19 (ni (T.a 26 (ni p0))))) + (T.a 27 (ni p0)))), (4, vI (s2.1)), (5, vI (s2.2))]) (st' := [vI 3, vI (T3.a 1 (ni (1616 + s2.2)))]) [(.iload 6, 2), (.iconst 3, 1)] ⟨dX1_worked_160, dX1_worked_162, rfl⟩ rfl ?_
            refine t_icmp_ne C 212 166 dX1_worked_163 rfl rfl (fun hc7 => ?_) (fun hc7 => ?_)
            · replace hw := hw.2 hc7
              refine t_b C (pc' := 216) (L' := [(4, vI (s2.1 + (-1))), (6, vI (T3.a 1 (ni (1616 + s2.2)))), (0, vA (some o)), (2, vI (T.a 26 (ni p0))), (3, vI ((32 * (T.a 19 (ni (T.a 26 (ni p0))))) + (T.a 27 (ni p0)))), (5, vI (s2.2))]) (st' := [vA (some o)]) [(.iinc 4 (-1), 3), (.aload_n 0, 1)] ⟨dX1_worked_212, dX1_worked_215, rfl⟩ rfl ?_
              refine t_gA C 273 42 219 dX1_worked_216 rfl rfl rfl rfl rfl q2261 (fun _ _ _ => rfl) ?_
              refine t_b C (pc' := 226) (L' := [(4, vI (s2.1 + (-1))), (6, vI (T3.a 1 (ni (1616 + s2.2)))), (0, vA (some o)), (2, vI (T.a 26 (ni p0))), (3, vI ((32 * (T.a 19 (ni (T.a 26 (ni p0))))) + (T.a 27 (ni p0)))), (5, vI (s2.2))]) (st' := [vA (some o), vI (T3.a 1 (ni (1616 + s2.2))), vI ((s2.1 + (-1)) - 1), vA (some (o + 1 + 42))]) [(.iload 4, 2), (.iconst 1, 1), (.isub, 1), (.iload 6, 2), (.aload_n 0, 1)] ⟨dX1_worked_219, dX1_worked_221, dX1_worked_222, dX1_worked_223, dX1_worked_225, rfl⟩ rfl ?_
              refine t_gA C 273 42 229 dX1_worked_226 rfl rfl rfl rfl rfl q2261 (fun _ _ _ => rfl) ?_
              refine t_b C (pc' := 233) (L' := [(4, vI (s2.1 + (-1))), (6, vI (T3.a 1 (ni (1616 + s2.2)))), (0, vA (some o)), (2, vI (T.a 26 (ni p0))), (3, vI ((32 * (T.a 19 (ni (T.a 26 (ni p0))))) + (T.a 27 (ni p0)))), (5, vI (s2.2))]) (st' := [vI ((s2.1 + (-1)) - 1), vA (some (o + 1 + 42)), vI (T3.a 1 (ni (1616 + s2.2))), vI ((s2.1 + (-1)) - 1), vA (some (o + 1 + 42))]) [(.iload 4, 2), (.iconst 1, 1), (.isub, 1)] ⟨dX1_worked_229, dX1_worked_231, dX1_worked_232, rfl⟩ rfl ?_
              refine t_iald C 234 dX1_worked_233 rfl hw.1 ?_
              replace hw := hw.2
              refine t_b C (pc' := 235) (L' := [(4, vI (s2.1 + (-1))), (6, vI (T3.a 1 (ni (1616 + s2.2)))), (0, vA (some o)), (2, vI (T.a 26 (ni p0))), (3, vI ((32 * (T.a 19 (ni (T.a 26 (ni p0))))) + (T.a 27 (ni p0)))), (5, vI (s2.2))]) (st' := [vA (some o), vI (T3.a 42 (ni ((s2.1 + (-1)) - 1))), vI (T3.a 1 (ni (1616 + s2.2))), vI ((s2.1 + (-1)) - 1), vA (some (o + 1 + 42))]) [(.aload_n 0, 1)] ⟨dX1_worked_234, rfl⟩ rfl ?_
              refine t_gA C 273 42 238 dX1_worked_235 rfl rfl rfl rfl rfl q2261 (fun _ _ _ => rfl) ?_
              refine t_b C (pc' := 240) (L' := [(4, vI (s2.1 + (-1))), (6, vI (T3.a 1 (ni (1616 + s2.2)))), (0, vA (some o)), (2, vI (T.a 26 (ni p0))), (3, vI ((32 * (T.a 19 (ni (T.a 26 (ni p0))))) + (T.a 27 (ni p0)))), (5, vI (s2.2))]) (st' := [vI (s2.1 + (-1)), vA (some (o + 1 + 42)), vI (T3.a 42 (ni ((s2.1 + (-1)) - 1))), vI (T3.a 1 (ni (1616 + s2.2))), vI ((s2.1 + (-1)) - 1), vA (some (o + 1 + 42))]) [(.iload 4, 2)] ⟨dX1_worked_238, rfl⟩ rfl ?_
              refine t_iald C 241 dX1_worked_240 rfl hw.1 ?_
              replace hw := hw.2
              refine t_callSI C 244 [vI (T3.a 1 (ni (1616 + s2.2))), vI (T3.a 42 (ni ((s2.1 + (-1)) - 1))), vI (T3.a 42 (ni (s2.1 + (-1))))] [vI ((s2.1 + (-1)) - 1), vA (some (o + 1 + 42))] dX1_worked_241 rfl (ok_X1_joined hG hw) q2825 q2826 q159 q2827 hd_X1_joined ⟨rfl, rfl, rfl⟩ (fun r9 T8 hw => ?_)
              refine t_iast C 245 dX1_worked_244 rfl hw.1 (fun T10 eT10 => ?_)
              replace hw := hw.2 T10 eT10
              refine t_b C (pc' := 248) (L' := [(5, vI (s2.2 + 1)), (4, vI (s2.1 + (-1))), (6, vI (T3.a 1 (ni (1616 + s2.2)))), (0, vA (some o)), (2, vI (T.a 26 (ni p0))), (3, vI ((32 * (T.a 19 (ni (T.a 26 (ni p0))))) + (T.a 27 (ni p0))))]) (st' := []) [(.iinc 5 1, 3)] ⟨dX1_worked_245, rfl⟩ rfl ?_
              refine t_goto C 58 dX1_worked_248 rfl ?_
              refine t_sub C (L' := [(0, vA (some o)), (2, vI (T.a 26 (ni p0))), (3, vI ((32 * (T.a 19 (ni (T.a 26 (ni p0))))) + (T.a 27 (ni p0)))), (4, vI (s2.1 + (-1))), (5, vI (s2.2 + 1))]) [3, 4, 5, 1, 0] rfl ?_
              obtain ⟨m9, hm9, hw⟩ := hw
              exact ih2 m9 hm9 ((s2.1 + (-1)), (s2.2 + 1)) T10 hw
            · replace hw := hw.1 hc7
              refine t_b C (pc' := 170) (L' := [(4, vI (s2.1 + (-2))), (6, vI (T3.a 1 (ni (1616 + s2.2)))), (0, vA (some o)), (2, vI (T.a 26 (ni p0))), (3, vI ((32 * (T.a 19 (ni (T.a 26 (ni p0))))) + (T.a 27 (ni p0)))), (5, vI (s2.2))]) (st' := [vA (some o)]) [(.iinc 4 (-2), 3), (.aload_n 0, 1)] ⟨dX1_worked_166, dX1_worked_169, rfl⟩ rfl ?_
              refine t_gA C 273 42 173 dX1_worked_170 rfl rfl rfl rfl rfl q2261 (fun _ _ _ => rfl) ?_
              refine t_b C (pc' := 178) (L' := [(4, vI (s2.1 + (-2))), (6, vI (T3.a 1 (ni (1616 + s2.2)))), (0, vA (some o)), (2, vI (T.a 26 (ni p0))), (3, vI ((32 * (T.a 19 (ni (T.a 26 (ni p0))))) + (T.a 27 (ni p0)))), (5, vI (s2.2))]) (st' := [vA (some o), vI ((s2.1 + (-2)) - 1), vA (some (o + 1 + 42))]) [(.iload 4, 2), (.iconst 1, 1), (.isub, 1), (.aload_n 0, 1)] ⟨dX1_worked_173, dX1_worked_175, dX1_worked_176, dX1_worked_177, rfl⟩ rfl ?_
              refine t_gA C 273 42 181 dX1_worked_178 rfl rfl rfl rfl rfl q2261 (fun _ _ _ => rfl) ?_
              refine t_b C (pc' := 185) (L' := [(4, vI (s2.1 + (-2))), (6, vI (T3.a 1 (ni (1616 + s2.2)))), (0, vA (some o)), (2, vI (T.a 26 (ni p0))), (3, vI ((32 * (T.a 19 (ni (T.a 26 (ni p0))))) + (T.a 27 (ni p0)))), (5, vI (s2.2))]) (st' := [vI ((s2.1 + (-2)) - 1), vA (some (o + 1 + 42)), vI ((s2.1 + (-2)) - 1), vA (some (o + 1 + 42))]) [(.iload 4, 2), (.iconst 1, 1), (.isub, 1)] ⟨dX1_worked_181, dX1_worked_183, dX1_worked_184, rfl⟩ rfl ?_
              refine t_iald C 186 dX1_worked_185 rfl hw.1 ?_
              replace hw := hw.2
              refine t_if_eq C 199 189 dX1_worked_186 rfl rfl (fun hc11 => ?_) (fun hc11 => ?_)
              · replace hw := hw.1 hc11
                refine t_b C (pc' := 200) (L' := [(4, vI (s2.1 + (-2))), (6, vI (T3.a 1 (ni (1616 + s2.2)))), (0, vA (some o)), (2, vI (T.a 26 (ni p0))), (3, vI ((32 * (T.a 19 (ni (T.a 26 (ni p0))))) + (T.a 27 (ni p0)))), (5, vI (s2.2))]) (st' := [vA (some o), vI ((s2.1 + (-2)) - 1), vA (some (o + 1 + 42))]) [(.aload_n 0, 1)] ⟨dX1_worked_199, rfl⟩ rfl ?_
                refine t_gA C 273 42 203 dX1_worked_200 rfl rfl rfl rfl rfl q2261 (fun _ _ _ => rfl) ?_
                refine t_b C (pc' := 207) (L' := [(4, vI (s2.1 + (-2))), (6, vI (T3.a 1 (ni (1616 + s2.2)))), (0, vA (some o)), (2, vI (T.a 26 (ni p0))), (3, vI ((32 * (T.a 19 (ni (T.a 26 (ni p0))))) + (T.a 27 (ni p0)))), (5, vI (s2.2))]) (st' := [vI ((s2.1 + (-2)) + 1), vA (some (o + 1 + 42)), vI ((s2.1 + (-2)) - 1), vA (some (o + 1 + 42))]) [(.iload 4, 2), (.iconst 1, 1), (.iadd, 1)] ⟨dX1_worked_203, dX1_worked_205, dX1_worked_206, rfl⟩ rfl ?_
                refine t_iald C 208 dX1_worked_207 rfl hw.1 ?_
                replace hw := hw.2
                refine t_iast C 209 dX1_worked_208 rfl hw.1 (fun T12 eT12 => ?_)
                replace hw := hw.2 T12 eT12
                refine t_goto C 245 dX1_worked_209 rfl ?_
                refine t_b C (pc' := 248) (L' := [(5, vI (s2.2 + 1)), (4, vI (s2.1 + (-2))), (6, vI (T3.a 1 (ni (1616 + s2.2)))), (0, vA (some o)), (2, vI (T.a 26 (ni p0))), (3, vI ((32 * (T.a 19 (ni (T.a 26 (ni p0))))) + (T.a 27 (ni p0))))]) (st' := []) [(.iinc 5 1, 3)] ⟨dX1_worked_245, rfl⟩ rfl ?_
                refine t_goto C 58 dX1_worked_248 rfl ?_
                refine t_sub C (L' := [(0, vA (some o)), (2, vI (T.a 26 (ni p0))), (3, vI ((32 * (T.a 19 (ni (T.a 26 (ni p0))))) + (T.a 27 (ni p0)))), (4, vI (s2.1 + (-2))), (5, vI (s2.2 + 1))]) [3, 4, 5, 1, 0] rfl ?_
                obtain ⟨m9, hm9, hw⟩ := hw
                exact ih2 m9 hm9 ((s2.1 + (-2)), (s2.2 + 1)) T12 hw
              · replace hw := hw.2 hc11
                refine t_b C (pc' := 190) (L' := [(4, vI (s2.1 + (-2))), (6, vI (T3.a 1 (ni (1616 + s2.2)))), (0, vA (some o)), (2, vI (T.a 26 (ni p0))), (3, vI ((32 * (T.a 19 (ni (T.a 26 (ni p0))))) + (T.a 27 (ni p0)))), (5, vI (s2.2))]) (st' := [vA (some o), vI ((s2.1 + (-2)) - 1), vA (some (o + 1 + 42))]) [(.aload_n 0, 1)] ⟨dX1_worked_189, rfl⟩ rfl ?_
                refine t_gA C 273 42 193 dX1_worked_190 rfl rfl rfl rfl rfl q2261 (fun _ _ _ => rfl) ?_
                refine t_b C (pc' := 195) (L' := [(4, vI (s2.1 + (-2))), (6, vI (T3.a 1 (ni (1616 + s2.2)))), (0, vA (some o)), (2, vI (T.a 26 (ni p0))), (3, vI ((32 * (T.a 19 (ni (T.a 26 (ni p0))))) + (T.a 27 (ni p0)))), (5, vI (s2.2))]) (st' := [vI (s2.1 + (-2)), vA (some (o + 1 + 42)), vI ((s2.1 + (-2)) - 1), vA (some (o + 1 + 42))]) [(.iload 4, 2)] ⟨dX1_worked_193, rfl⟩ rfl ?_
                refine t_iald C 196 dX1_worked_195 rfl hw.1 ?_
                replace hw := hw.2
                refine t_goto C 208 dX1_worked_196 rfl ?_
                refine t_iast C 209 dX1_worked_208 rfl hw.1 (fun T13 eT13 => ?_)
                replace hw := hw.2 T13 eT13
                refine t_goto C 245 dX1_worked_209 rfl ?_
                refine t_b C (pc' := 248) (L' := [(5, vI (s2.2 + 1)), (4, vI (s2.1 + (-2))), (6, vI (T3.a 1 (ni (1616 + s2.2)))), (0, vA (some o)), (2, vI (T.a 26 (ni p0))), (3, vI ((32 * (T.a 19 (ni (T.a 26 (ni p0))))) + (T.a 27 (ni p0))))]) (st' := []) [(.iinc 5 1, 3)] ⟨dX1_worked_245, rfl⟩ rfl ?_
                refine t_goto C 58 dX1_worked_248 rfl ?_
                refine t_sub C (L' := [(0, vA (some o)), (2, vI (T.a 26 (ni p0))), (3, vI ((32 * (T.a 19 (ni (T.a 26 (ni p0))))) + (T.a 27 (ni p0)))), (4, vI (s2.1 + (-2))), (5, vI (s2.2 + 1))]) [3, 4, 5, 1, 0] rfl ?_
                obtain ⟨m9, hm9, hw⟩ := hw
                exact ih2 m9 hm9 ((s2.1 + (-2)), (s2.2 + 1)) T13 hw
          · replace hw := hw.2 hc6
            refine t_b C (pc' := 93) (L' := [(6, vI (T3.a 1 (ni (1616 + s2.2)))), (0, vA (some o)), (2, vI (T.a 26 (ni p0))), (3, vI ((32 * (T.a 19 (ni (T.a 26 (ni p0))))) + (T.a 27 (ni p0)))), (4, vI (s2.1)), (5, vI (s2.2))]) (st' := [vA (some o)]) [(.aload_n 0, 1)] ⟨dX1_worked_92, rfl⟩ rfl ?_
            refine t_gA C 273 42 96 dX1_worked_93 rfl rfl rfl rfl rfl q2261 (fun _ _ _ => rfl) ?_
            refine t_b C (pc' := 100) (L' := [(6, vI (T3.a 1 (ni (1616 + s2.2)))), (0, vA (some o)), (2, vI (T.a 26 (ni p0))), (3, vI ((32 * (T.a 19 (ni (T.a 26 (ni p0))))) + (T.a 27 (ni p0)))), (4, vI (s2.1)), (5, vI (s2.2))]) (st' := [vI (T3.a 1 (ni (1616 + s2.2))), vI (s2.1), vA (some (o + 1 + 42))]) [(.iload 4, 2), (.iload 6, 2)] ⟨dX1_worked_96, dX1_worked_98, rfl⟩ rfl ?_
            refine t_if_ne C 117 103 dX1_worked_100 rfl rfl (fun hc14 => ?_) (fun hc14 => ?_)
            · replace hw := hw.2 hc14
              refine t_b C (pc' := 120) (L' := [(6, vI (T3.a 1 (ni (1616 + s2.2)))), (0, vA (some o)), (2, vI (T.a 26 (ni p0))), (3, vI ((32 * (T.a 19 (ni (T.a 26 (ni p0))))) + (T.a 27 (ni p0)))), (4, vI (s2.1)), (5, vI (s2.2))]) (st' := [vI 1, vI (T3.a 1 (ni (1616 + s2.2))), vI (s2.1), vA (some (o + 1 + 42))]) [(.iload 6, 2), (.iconst 1, 1)] ⟨dX1_worked_117, dX1_worked_119, rfl⟩ rfl ?_
              refine t_icmp_ne C 132 123 dX1_worked_120 rfl rfl (fun hc15 => ?_) (fun hc15 => ?_)
              · replace hw := hw.2 hc15
                refine t_b C (pc' := 133) (L' := [(6, vI (T3.a 1 (ni (1616 + s2.2)))), (0, vA (some o)), (2, vI (T.a 26 (ni p0))), (3, vI ((32 * (T.a 19 (ni (T.a 26 (ni p0))))) + (T.a 27 (ni p0)))), (4, vI (s2.1)), (5, vI (s2.2))]) (st' := [vA (some o), vI (s2.1), vA (some (o + 1 + 42))]) [(.aload_n 0, 1)] ⟨dX1_worked_132, rfl⟩ rfl ?_
                refine t_gA C 258 28 136 dX1_worked_133 rfl rfl rfl rfl rfl q2246 (fun _ _ _ => rfl) ?_
                refine t_b C (pc' := 139) (L' := [(6, vI (T3.a 1 (ni (1616 + s2.2)))), (0, vA (some o)), (2, vI (T.a 26 (ni p0))), (3, vI ((32 * (T.a 19 (ni (T.a 26 (ni p0))))) + (T.a 27 (ni p0)))), (4, vI (s2.1)), (5, vI (s2.2))]) (st' := [vA (some o), vI (T.a 26 (ni p0)), vA (some o), vA (some (o + 1 + 28)), vI (s2.1), vA (some (o + 1 + 42))]) [(.aload_n 0, 1), (.iload_n 2, 1), (.aload_n 0, 1)] ⟨dX1_worked_136, dX1_worked_137, dX1_worked_138, rfl⟩ rfl ?_
                refine t_gA C 201 1 142 dX1_worked_139 rfl rfl rfl rfl rfl q2189 (fun _ _ _ => rfl) ?_
                refine t_b C (pc' := 148) (L' := [(6, vI (T3.a 1 (ni (1616 + s2.2)))), (0, vA (some o)), (2, vI (T.a 26 (ni p0))), (3, vI ((32 * (T.a 19 (ni (T.a 26 (ni p0))))) + (T.a 27 (ni p0)))), (4, vI (s2.1)), (5, vI (s2.2))]) (st' := [vI (2716 + s2.2), vA (some (o + 1 + 1)), vI (T.a 26 (ni p0)), vA (some o), vA (some (o + 1 + 28)), vI (s2.1), vA (some (o + 1 + 42))]) [(.sipush 2716, 3), (.iload 5, 2), (.iadd, 1)] ⟨dX1_worked_142, dX1_worked_145, dX1_worked_147, rfl⟩ rfl ?_
                refine t_iald C 149 dX1_worked_148 rfl hw.1 ?_
                replace hw := hw.2
                refine t_callVI C 152 [vI (T.a 26 (ni p0)), vI (T3.a 1 (ni (2716 + s2.2)))] [vA (some (o + 1 + 28)), vI (s2.1), vA (some (o + 1 + 42))] dX1_worked_149 rfl (ok_X1_instanceOf hG hw) q2798 q2800 qs139 q159 q2801 hd_X1_instanceOf ⟨rfl, rfl, rfl⟩ (fun r17 T16 hw => ?_)
                refine t_iald C 153 dX1_worked_152 rfl hw.1 ?_
                replace hw := hw.2
                refine t_iast C 154 dX1_worked_153 rfl hw.1 (fun T18 eT18 => ?_)
                replace hw := hw.2 T18 eT18
                refine t_b C (pc' := 157) (L' := [(4, vI (s2.1 + 1)), (6, vI (T3.a 1 (ni (1616 + s2.2)))), (0, vA (some o)), (2, vI (T.a 26 (ni p0))), (3, vI ((32 * (T.a 19 (ni (T.a 26 (ni p0))))) + (T.a 27 (ni p0)))), (5, vI (s2.2))]) (st' := []) [(.iinc 4 1, 3)] ⟨dX1_worked_154, rfl⟩ rfl ?_
                refine t_goto C 245 dX1_worked_157 rfl ?_
                refine t_b C (pc' := 248) (L' := [(5, vI (s2.2 + 1)), (4, vI (s2.1 + 1)), (6, vI (T3.a 1 (ni (1616 + s2.2)))), (0, vA (some o)), (2, vI (T.a 26 (ni p0))), (3, vI ((32 * (T.a 19 (ni (T.a 26 (ni p0))))) + (T.a 27 (ni p0))))]) (st' := []) [(.iinc 5 1, 3)] ⟨dX1_worked_245, rfl⟩ rfl ?_
                refine t_goto C 58 dX1_worked_248 rfl ?_
                refine t_sub C (L' := [(0, vA (some o)), (2, vI (T.a 26 (ni p0))), (3, vI ((32 * (T.a 19 (ni (T.a 26 (ni p0))))) + (T.a 27 (ni p0)))), (4, vI (s2.1 + 1)), (5, vI (s2.2 + 1))]) [3, 4, 5, 1, 0] rfl ?_
                obtain ⟨m9, hm9, hw⟩ := hw
                exact ih2 m9 hm9 ((s2.1 + 1), (s2.2 + 1)) T18 hw
              · replace hw := hw.1 hc15
                refine t_b C (pc' := 124) (L' := [(6, vI (T3.a 1 (ni (1616 + s2.2)))), (0, vA (some o)), (2, vI (T.a 26 (ni p0))), (3, vI ((32 * (T.a 19 (ni (T.a 26 (ni p0))))) + (T.a 27 (ni p0)))), (4, vI (s2.1)), (5, vI (s2.2))]) (st' := [vA (some o), vI (s2.1), vA (some (o + 1 + 42))]) [(.aload_n 0, 1)] ⟨dX1_worked_123, rfl⟩ rfl ?_
                refine t_gA C 244 20 127 dX1_worked_124 rfl rfl rfl rfl rfl q2232 (fun _ _ _ => rfl) ?_
                refine t_b C (pc' := 128) (L' := [(6, vI (T3.a 1 (ni (1616 + s2.2)))), (0, vA (some o)), (2, vI (T.a 26 (ni p0))), (3, vI ((32 * (T.a 19 (ni (T.a 26 (ni p0))))) + (T.a 27 (ni p0)))), (4, vI (s2.1)), (5, vI (s2.2))]) (st' := [vI (T.a 26 (ni p0)), vA (some (o + 1 + 20)), vI (s2.1), vA (some (o + 1 + 42))]) [(.iload_n 2, 1)] ⟨dX1_worked_127, rfl⟩ rfl ?_
                refine t_iald C 129 dX1_worked_128 rfl hw.1 ?_
                replace hw := hw.2
                refine t_goto C 153 dX1_worked_129 rfl ?_
                refine t_iast C 154 dX1_worked_153 rfl hw.1 (fun T19 eT19 => ?_)
                replace hw := hw.2 T19 eT19
                refine t_b C (pc' := 157) (L' := [(4, vI (s2.1 + 1)), (6, vI (T3.a 1 (ni (1616 + s2.2)))), (0, vA (some o)), (2, vI (T.a 26 (ni p0))), (3, vI ((32 * (T.a 19 (ni (T.a 26 (ni p0))))) + (T.a 27 (ni p0)))), (5, vI (s2.2))]) (st' := []) [(.iinc 4 1, 3)] ⟨dX1_worked_154, rfl⟩ rfl ?_
                refine t_goto C 245 dX1_worked_157 rfl ?_
                refine t_b C (pc' := 248) (L' := [(5, vI (s2.2 + 1)), (4, vI (s2.1 + 1)), (6, vI (T3.a 1 (ni (1616 + s2.2)))), (0, vA (some o)), (2, vI (T.a 26 (ni p0))), (3, vI ((32 * (T.a 19 (ni (T.a 26 (ni p0))))) + (T.a 27 (ni p0))))]) (st' := []) [(.iinc 5 1, 3)] ⟨dX1_worked_245, rfl⟩ rfl ?_
                refine t_goto C 58 dX1_worked_248 rfl ?_
                refine t_sub C (L' := [(0, vA (some o)), (2, vI (T.a 26 (ni p0))), (3, vI ((32 * (T.a 19 (ni (T.a 26 (ni p0))))) + (T.a 27 (ni p0)))), (4, vI (s2.1 + 1)), (5, vI (s2.2 + 1))]) [3, 4, 5, 1, 0] rfl ?_
                obtain ⟨m9, hm9, hw⟩ := hw
                exact ih2 m9 hm9 ((s2.1 + 1), (s2.2 + 1)) T19 hw
            · replace hw := hw.1 hc14
              refine t_b C (pc' := 104) (L' := [(6, vI (T3.a 1 (ni (1616 + s2.2)))), (0, vA (some o)), (2, vI (T.a 26 (ni p0))), (3, vI ((32 * (T.a 19 (ni (T.a 26 (ni p0))))) + (T.a 27 (ni p0)))), (4, vI (s2.1)), (5, vI (s2.2))]) (st' := [vA (some o), vI (s2.1), vA (some (o + 1 + 42))]) [(.aload_n 0, 1)] ⟨dX1_worked_103, rfl⟩ rfl ?_
              refine t_gA C 201 1 107 dX1_worked_104 rfl rfl rfl rfl rfl q2189 (fun _ _ _ => rfl) ?_
              refine t_b C (pc' := 113) (L' := [(6, vI (T3.a 1 (ni (1616 + s2.2)))), (0, vA (some o)), (2, vI (T.a 26 (ni p0))), (3, vI ((32 * (T.a 19 (ni (T.a 26 (ni p0))))) + (T.a 27 (ni p0)))), (4, vI (s2.1)), (5, vI (s2.2))]) (st' := [vI (2716 + s2.2), vA (some (o + 1 + 1)), vI (s2.1), vA (some (o + 1 + 42))]) [(.sipush 2716, 3), (.iload 5, 2), (.iadd, 1)] ⟨dX1_worked_107, dX1_worked_110, dX1_worked_112, rfl⟩ rfl ?_
              refine t_iald C 114 dX1_worked_113 rfl hw.1 ?_
              replace hw := hw.2
              refine t_goto C 153 dX1_worked_114 rfl ?_
              refine t_iast C 154 dX1_worked_153 rfl hw.1 (fun T20 eT20 => ?_)
              replace hw := hw.2 T20 eT20
              refine t_b C (pc' := 157) (L' := [(4, vI (s2.1 + 1)), (6, vI (T3.a 1 (ni (1616 + s2.2)))), (0, vA (some o)), (2, vI (T.a 26 (ni p0))), (3, vI ((32 * (T.a 19 (ni (T.a 26 (ni p0))))) + (T.a 27 (ni p0)))), (5, vI (s2.2))]) (st' := []) [(.iinc 4 1, 3)] ⟨dX1_worked_154, rfl⟩ rfl ?_
              refine t_goto C 245 dX1_worked_157 rfl ?_
              refine t_b C (pc' := 248) (L' := [(5, vI (s2.2 + 1)), (4, vI (s2.1 + 1)), (6, vI (T3.a 1 (ni (1616 + s2.2)))), (0, vA (some o)), (2, vI (T.a 26 (ni p0))), (3, vI ((32 * (T.a 19 (ni (T.a 26 (ni p0))))) + (T.a 27 (ni p0))))]) (st' := []) [(.iinc 5 1, 3)] ⟨dX1_worked_245, rfl⟩ rfl ?_
              refine t_goto C 58 dX1_worked_248 rfl ?_
              refine t_sub C (L' := [(0, vA (some o)), (2, vI (T.a 26 (ni p0))), (3, vI ((32 * (T.a 19 (ni (T.a 26 (ni p0))))) + (T.a 27 (ni p0)))), (4, vI (s2.1 + 1)), (5, vI (s2.2 + 1))]) [3, 4, 5, 1, 0] rfl ?_
              obtain ⟨m9, hm9, hw⟩ := hw
              exact ih2 m9 hm9 ((s2.1 + 1), (s2.2 + 1)) T20 hw
    exact key2 n2 (0, (T.a 1 (ni (80 + ((32 * (T.a 19 (ni (T.a 26 (ni p0))))) + (T.a 27 (ni p0))))))) T hI2
  · replace hw := hw.1 hc1
    refine t_b C (pc' := 11) (L' := [(0, vA (some o)), (1, vI p0)]) (st' := [vA (some o)]) [(.aload_n 0, 1)] ⟨dX1_worked_10, rfl⟩ rfl ?_
    refine t_gA C 249 25 14 dX1_worked_11 rfl rfl rfl rfl rfl q2237 (fun _ _ _ => rfl) ?_
    refine t_b C (pc' := 18) (L' := [(0, vA (some o)), (1, vI p0)]) (st' := [vI (jrem p0 8), vA (some (o + 1 + 25))]) [(.iload_n 1, 1), (.bipush 8, 2), (.irem, 1)] ⟨dX1_worked_14, dX1_worked_15, dX1_worked_17, rfl⟩ rfl ?_
    refine t_iald C 19 dX1_worked_18 rfl hw.1 ?_
    replace hw := hw.2
    exact t_iret C dX1_worked_19 ⟨_, rfl, hw⟩
def wp_X1_turnsKnot (p0 : Int32) (T : TS) (Q : TS → Prop) : Prop :=
  tlp (σ := Int32) (fun s1 T2 k1 =>
  (((8 * (T2.s 250)) ≤ s1 →
  tlp (σ := Int32 × Int32) (fun s4 T5 k4 =>
  ((((s4.2 = 0) ∨ (64 ≤ s4.1)) →
  tlp (σ := Int32) (fun s8 T9 k8 =>
  (((8 * (T9.s 250)) ≤ s8 →
  Q T9) ∧ (¬ (8 * (T9.s 250)) ≤ s8 →
  tix 36 42 s8 ∧
  (((T9.a 36 (ni s8)) = 0 →
  k8 (s8 + 1) T9) ∧ (¬ (T9.a 36 (ni s8)) = 0 →
  tix 29 40 s8 ∧
  (((T9.a 29 (ni s8)) = p0 →
  tix 30 40 s8 ∧
  ∀ T13, T13 = T9.sa 30 (ni s8) s4.1 →
  tix 37 42 s8 ∧
  ∀ T14, T14 = T13.sa 37 (ni s8) (vp_nar .boolean s4.2) →
  tix 38 42 s8 ∧
  ∀ T15, T15 = T14.sa 38 (ni s8) (vp_nar .boolean 1) →
  k8 (s8 + 1) T15) ∧ (¬ (T9.a 29 (ni s8)) = p0 →
  k8 (s8 + 1) T9))))))) 0 T5) ∧ (¬ ((s4.2 = 0) ∨ (64 ≤ s4.1)) →
  tlp (σ := Int32 × Int32) (fun s16 T17 k16 =>
  (((8 * (T17.s 250)) ≤ s16.2 →
  k4 ((s4.1 + 1), s16.1) T17) ∧ (¬ (8 * (T17.s 250)) ≤ s16.2 →
  tix 36 42 s16.2 ∧
  (((T17.a 36 (ni s16.2)) = 0 →
  k16 (s16.1, (s16.2 + 1)) T17) ∧ (¬ (T17.a 36 (ni s16.2)) = 0 →
  tix 29 40 s16.2 ∧
  (((T17.a 29 (ni s16.2)) = p0 →
  wp_X1_worked (s16.2) T17 fun r22 T21 =>
  ((s16.1 = 0 →
  tix 28 40 s16.2 ∧
  ∀ m25 : Int32, m25 = (if r22 = (T21.a 28 (ni s16.2)) then 0 else 1) →
  tix 28 40 s16.2 ∧
  ∀ T27, T27 = T21.sa 28 (ni s16.2) r22 →
  k16 (m25, (s16.2 + 1)) T27) ∧ (¬ s16.1 = 0 →
  tix 28 40 s16.2 ∧
  ∀ T24, T24 = T21.sa 28 (ni s16.2) r22 →
  k16 (1, (s16.2 + 1)) T24))) ∧ (¬ (T17.a 29 (ni s16.2)) = p0 →
  k16 (s16.1, (s16.2 + 1)) T17))))))) (0, 0) T5))) (0, 1) T2) ∧ (¬ (8 * (T2.s 250)) ≤ s1 →
  tix 36 42 s1 ∧
  (((T2.a 36 (ni s1)) = 0 →
  k1 (s1 + 1) T2) ∧ (¬ (T2.a 36 (ni s1)) = 0 →
  tix 29 40 s1 ∧
  (((T2.a 29 (ni s1)) = p0 →
  tix 28 40 s1 ∧
  ∀ T33, T33 = T2.sa 28 (ni s1) 0 →
  k1 (s1 + 1) T33) ∧ (¬ (T2.a 29 (ni s1)) = p0 →
  k1 (s1 + 1) T2))))))) 0 T
theorem hd_X1_turnsKnot : yX1_turnsKnot.cls = RX1 ∧ yX1_turnsKnot.cls ≠ "java/lang/invoke/MethodHandle" ∧ yX1_turnsKnot.cls ≠ "java/lang/invoke/VarHandle" ∧ (parseMethodDescriptor yX1_turnsKnot.desc).map (fun d => d.parameters.length) = some 1 := by decide +kernel
theorem ok_X1_turnsKnot {l : Launch} {D : va_G} {s0 : S0} (hG : G0 D s0) {o : Nat} {p0 : Int32} {T : TS} {Q : TS → Prop} (hw : wp_X1_turnsKnot p0 T Q) : OKt l D s0 o yX1_turnsKnot cX1_turnsKnot 6 none 3 72 [vA (some o), vI p0] T (TV Q) := by
  refine t_met hG rfl rfl (L0 := [(0, vA (some o)), (1, vI p0)]) rfl rfl ?_
  intro h K C
  unfold wp_X1_turnsKnot at hw
  refine t_b C (pc' := 2) (L' := [(2, vI 0), (0, vA (some o)), (1, vI p0)]) (st' := []) [(.iconst 0, 1), (.istore_n 2, 1)] ⟨dX1_turnsKnot_0, dX1_turnsKnot_1, rfl⟩ rfl ?_
  obtain ⟨I1, ⟨n1, hI1⟩, hB1⟩ := tlp.out hw
  refine t_sub C (L' := [(0, vA (some o)), (1, vI p0), (2, vI 0)]) [1, 2, 0] rfl ?_
  have key1 : ∀ (n : Nat) (s1 : Int32) (T2 : TS), I1 n s1 T2 → K 2 [(0, vA (some o)), (1, vI p0), (2, vI s1)] [] T2 := by
    intro n
    induction n using Nat.strongRecOn with
    | ind n ih1 =>
      intro s1 T2 hI
      replace hw := hB1 n s1 T2 hI
      refine t_b C (pc' := 6) (L' := [(0, vA (some o)), (1, vI p0), (2, vI s1)]) (st' := [vA (some o), vI 8, vI s1]) [(.iload_n 2, 1), (.bipush 8, 2), (.aload_n 0, 1)] ⟨dX1_turnsKnot_2, dX1_turnsKnot_3, dX1_turnsKnot_5, rfl⟩ rfl ?_
      refine t_gI C 250 9 dX1_turnsKnot_6 rfl rfl rfl q2238 (fun _ _ _ => rfl) ?_
      refine t_b C (pc' := 10) (L' := [(0, vA (some o)), (1, vI p0), (2, vI s1)]) (st' := [vI (8 * (T2.s 250)), vI s1]) [(.imul, 1)] ⟨dX1_turnsKnot_9, rfl⟩ rfl ?_
      refine t_icmp_ge C 45 13 dX1_turnsKnot_10 rfl rfl (fun hc3 => ?_) (fun hc3 => ?_)
      · replace hw := hw.1 hc3
        refine t_b C (pc' := 49) (L' := [(3, vI 1), (2, vI 0), (0, vA (some o)), (1, vI p0)]) (st' := []) [(.iconst 0, 1), (.istore_n 2, 1), (.iconst 1, 1), (.istore_n 3, 1)] ⟨dX1_turnsKnot_45, dX1_turnsKnot_46, dX1_turnsKnot_47, dX1_turnsKnot_48, rfl⟩ rfl ?_
        obtain ⟨I4, ⟨n4, hI4⟩, hB4⟩ := tlp.out hw
        refine t_sub C (L' := [(0, vA (some o)), (1, vI p0), (2, vI 0), (3, vI 1)]) [2, 3, 1, 0] rfl ?_
        have key4 : ∀ (n : Nat) (s4 : Int32 × Int32) (T5 : TS), I4 n s4 T5 → K 49 [(0, vA (some o)), (1, vI p0), (2, vI (s4.1)), (3, vI (s4.2))] [] T5 := by
          intro n
          induction n using Nat.strongRecOn with
          | ind n ih4 =>
            intro s4 T5 hI
            replace hw := hB4 n s4 T5 hI
            refine t_b C (pc' := 50) (L' := [(0, vA (some o)), (1, vI p0), (2, vI (s4.1)), (3, vI (s4.2))]) (st' := [vI (s4.2)]) [(.iload_n 3, 1)] ⟨dX1_turnsKnot_49, rfl⟩ rfl ?_
            have kx6 : ((s4.2 = 0) ∨ (64 ≤ s4.1)) → K 151 [(0, vA (some o)), (1, vI p0), (2, vI (s4.1)), (3, vI (s4.2))] [] T5 := by
              intro hcc
              replace hw := hw.1 hcc
              refine t_b C (pc' := 154) (L' := [(4, vI 0), (0, vA (some o)), (1, vI p0), (2, vI (s4.1)), (3, vI (s4.2))]) (st' := []) [(.iconst 0, 1), (.istore 4, 2)] ⟨dX1_turnsKnot_151, dX1_turnsKnot_152, rfl⟩ rfl ?_
              obtain ⟨I8, ⟨n8, hI8⟩, hB8⟩ := tlp.out hw
              refine t_sub C (L' := [(0, vA (some o)), (1, vI p0), (2, vI (s4.1)), (3, vI (s4.2)), (4, vI 0)]) [1, 2, 3, 4, 0] rfl ?_
              have key8 : ∀ (n : Nat) (s8 : Int32) (T9 : TS), I8 n s8 T9 → K 154 [(0, vA (some o)), (1, vI p0), (2, vI (s4.1)), (3, vI (s4.2)), (4, vI s8)] [] T9 := by
                intro n
                induction n using Nat.strongRecOn with
                | ind n ih8 =>
                  intro s8 T9 hI
                  replace hw := hB8 n s8 T9 hI
                  refine t_b C (pc' := 159) (L' := [(0, vA (some o)), (1, vI p0), (2, vI (s4.1)), (3, vI (s4.2)), (4, vI s8)]) (st' := [vA (some o), vI 8, vI s8]) [(.iload 4, 2), (.bipush 8, 2), (.aload_n 0, 1)] ⟨dX1_turnsKnot_154, dX1_turnsKnot_156, dX1_turnsKnot_158, rfl⟩ rfl ?_
                  refine t_gI C 250 162 dX1_turnsKnot_159 rfl rfl rfl q2238 (fun _ _ _ => rfl) ?_
                  refine t_b C (pc' := 163) (L' := [(0, vA (some o)), (1, vI p0), (2, vI (s4.1)), (3, vI (s4.2)), (4, vI s8)]) (st' := [vI (8 * (T9.s 250)), vI s8]) [(.imul, 1)] ⟨dX1_turnsKnot_162, rfl⟩ rfl ?_
                  refine t_icmp_ge C 220 166 dX1_turnsKnot_163 rfl rfl (fun hc10 => ?_) (fun hc10 => ?_)
                  · replace hw := hw.1 hc10
                    exact t_vret C dX1_turnsKnot_220 ⟨rfl, hw⟩
                  · replace hw := hw.2 hc10
                    refine t_b C (pc' := 167) (L' := [(0, vA (some o)), (1, vI p0), (2, vI (s4.1)), (3, vI (s4.2)), (4, vI s8)]) (st' := [vA (some o)]) [(.aload_n 0, 1)] ⟨dX1_turnsKnot_166, rfl⟩ rfl ?_
                    refine t_gA C 266 36 170 dX1_turnsKnot_167 rfl rfl rfl rfl rfl q2254 (fun _ _ _ => rfl) ?_
                    refine t_b C (pc' := 172) (L' := [(0, vA (some o)), (1, vI p0), (2, vI (s4.1)), (3, vI (s4.2)), (4, vI s8)]) (st' := [vI s8, vA (some (o + 1 + 36))]) [(.iload 4, 2)] ⟨dX1_turnsKnot_170, rfl⟩ rfl ?_
                    refine t_zald C 173 dX1_turnsKnot_172 rfl hw.1 ?_
                    replace hw := hw.2
                    refine t_if_eq C 214 176 dX1_turnsKnot_173 rfl rfl (fun hc11 => ?_) (fun hc11 => ?_)
                    · replace hw := hw.1 hc11
                      refine t_b C (pc' := 217) (L' := [(4, vI (s8 + 1)), (0, vA (some o)), (1, vI p0), (2, vI (s4.1)), (3, vI (s4.2))]) (st' := []) [(.iinc 4 1, 3)] ⟨dX1_turnsKnot_214, rfl⟩ rfl ?_
                      refine t_goto C 154 dX1_turnsKnot_217 rfl ?_
                      refine t_sub C (L' := [(0, vA (some o)), (1, vI p0), (2, vI (s4.1)), (3, vI (s4.2)), (4, vI (s8 + 1))]) [1, 2, 3, 4, 0] rfl ?_
                      obtain ⟨m9, hm9, hw⟩ := hw
                      exact ih8 m9 hm9 (s8 + 1) T9 hw
                    · replace hw := hw.2 hc11
                      refine t_b C (pc' := 177) (L' := [(0, vA (some o)), (1, vI p0), (2, vI (s4.1)), (3, vI (s4.2)), (4, vI s8)]) (st' := [vA (some o)]) [(.aload_n 0, 1)] ⟨dX1_turnsKnot_176, rfl⟩ rfl ?_
                      refine t_gA C 259 29 180 dX1_turnsKnot_177 rfl rfl rfl rfl rfl q2247 (fun _ _ _ => rfl) ?_
                      refine t_b C (pc' := 182) (L' := [(0, vA (some o)), (1, vI p0), (2, vI (s4.1)), (3, vI (s4.2)), (4, vI s8)]) (st' := [vI s8, vA (some (o + 1 + 29))]) [(.iload 4, 2)] ⟨dX1_turnsKnot_180, rfl⟩ rfl ?_
                      refine t_iald C 183 dX1_turnsKnot_182 rfl hw.1 ?_
                      replace hw := hw.2
                      refine t_b C (pc' := 184) (L' := [(0, vA (some o)), (1, vI p0), (2, vI (s4.1)), (3, vI (s4.2)), (4, vI s8)]) (st' := [vI p0, vI (T9.a 29 (ni s8))]) [(.iload_n 1, 1)] ⟨dX1_turnsKnot_183, rfl⟩ rfl ?_
                      refine t_icmp_eq C 190 187 dX1_turnsKnot_184 rfl rfl (fun hc12 => ?_) (fun hc12 => ?_)
                      · replace hw := hw.1 hc12
                        refine t_b C (pc' := 191) (L' := [(0, vA (some o)), (1, vI p0), (2, vI (s4.1)), (3, vI (s4.2)), (4, vI s8)]) (st' := [vA (some o)]) [(.aload_n 0, 1)] ⟨dX1_turnsKnot_190, rfl⟩ rfl ?_
                        refine t_gA C 260 30 194 dX1_turnsKnot_191 rfl rfl rfl rfl rfl q2248 (fun _ _ _ => rfl) ?_
                        refine t_b C (pc' := 197) (L' := [(0, vA (some o)), (1, vI p0), (2, vI (s4.1)), (3, vI (s4.2)), (4, vI s8)]) (st' := [vI (s4.1), vI s8, vA (some (o + 1 + 30))]) [(.iload 4, 2), (.iload_n 2, 1)] ⟨dX1_turnsKnot_194, dX1_turnsKnot_196, rfl⟩ rfl ?_
                        refine t_iast C 198 dX1_turnsKnot_197 rfl hw.1 (fun T13 eT13 => ?_)
                        replace hw := hw.2 T13 eT13
                        refine t_b C (pc' := 199) (L' := [(0, vA (some o)), (1, vI p0), (2, vI (s4.1)), (3, vI (s4.2)), (4, vI s8)]) (st' := [vA (some o)]) [(.aload_n 0, 1)] ⟨dX1_turnsKnot_198, rfl⟩ rfl ?_
                        refine t_gA C 267 37 202 dX1_turnsKnot_199 rfl rfl rfl rfl rfl q2255 (fun _ _ _ => rfl) ?_
                        refine t_b C (pc' := 205) (L' := [(0, vA (some o)), (1, vI p0), (2, vI (s4.1)), (3, vI (s4.2)), (4, vI s8)]) (st' := [vI (s4.2), vI s8, vA (some (o + 1 + 37))]) [(.iload 4, 2), (.iload_n 3, 1)] ⟨dX1_turnsKnot_202, dX1_turnsKnot_204, rfl⟩ rfl ?_
                        refine t_zast C 206 dX1_turnsKnot_205 rfl hw.1 (fun T14 eT14 => ?_)
                        replace hw := hw.2 T14 eT14
                        refine t_b C (pc' := 207) (L' := [(0, vA (some o)), (1, vI p0), (2, vI (s4.1)), (3, vI (s4.2)), (4, vI s8)]) (st' := [vA (some o)]) [(.aload_n 0, 1)] ⟨dX1_turnsKnot_206, rfl⟩ rfl ?_
                        refine t_gA C 268 38 210 dX1_turnsKnot_207 rfl rfl rfl rfl rfl q2256 (fun _ _ _ => rfl) ?_
                        refine t_b C (pc' := 213) (L' := [(0, vA (some o)), (1, vI p0), (2, vI (s4.1)), (3, vI (s4.2)), (4, vI s8)]) (st' := [vI 1, vI s8, vA (some (o + 1 + 38))]) [(.iload 4, 2), (.iconst 1, 1)] ⟨dX1_turnsKnot_210, dX1_turnsKnot_212, rfl⟩ rfl ?_
                        refine t_zast C 214 dX1_turnsKnot_213 rfl hw.1 (fun T15 eT15 => ?_)
                        replace hw := hw.2 T15 eT15
                        refine t_b C (pc' := 217) (L' := [(4, vI (s8 + 1)), (0, vA (some o)), (1, vI p0), (2, vI (s4.1)), (3, vI (s4.2))]) (st' := []) [(.iinc 4 1, 3)] ⟨dX1_turnsKnot_214, rfl⟩ rfl ?_
                        refine t_goto C 154 dX1_turnsKnot_217 rfl ?_
                        refine t_sub C (L' := [(0, vA (some o)), (1, vI p0), (2, vI (s4.1)), (3, vI (s4.2)), (4, vI (s8 + 1))]) [1, 2, 3, 4, 0] rfl ?_
                        obtain ⟨m9, hm9, hw⟩ := hw
                        exact ih8 m9 hm9 (s8 + 1) T15 hw
                      · replace hw := hw.2 hc12
                        refine t_goto C 214 dX1_turnsKnot_187 rfl ?_
                        refine t_b C (pc' := 217) (L' := [(4, vI (s8 + 1)), (0, vA (some o)), (1, vI p0), (2, vI (s4.1)), (3, vI (s4.2))]) (st' := []) [(.iinc 4 1, 3)] ⟨dX1_turnsKnot_214, rfl⟩ rfl ?_
                        refine t_goto C 154 dX1_turnsKnot_217 rfl ?_
                        refine t_sub C (L' := [(0, vA (some o)), (1, vI p0), (2, vI (s4.1)), (3, vI (s4.2)), (4, vI (s8 + 1))]) [1, 2, 3, 4, 0] rfl ?_
                        obtain ⟨m9, hm9, hw⟩ := hw
                        exact ih8 m9 hm9 (s8 + 1) T9 hw
              exact key8 n8 0 T5 hI8
            have ky7 : ¬ ((s4.2 = 0) ∨ (64 ≤ s4.1)) → K 67 [(4, vI 0), (2, vI (s4.1 + 1)), (3, vI 0), (0, vA (some o)), (1, vI p0)] [] T5 := by
              intro hcc
              replace hw := hw.2 hcc
              obtain ⟨I16, ⟨n16, hI16⟩, hB16⟩ := tlp.out hw
              refine t_sub C (L' := [(0, vA (some o)), (1, vI p0), (2, vI (s4.1 + 1)), (3, vI 0), (4, vI 0)]) [3, 4, 1, 2, 0] rfl ?_
              have key16 : ∀ (n : Nat) (s16 : Int32 × Int32) (T17 : TS), I16 n s16 T17 → K 67 [(0, vA (some o)), (1, vI p0), (2, vI (s4.1 + 1)), (3, vI (s16.1)), (4, vI (s16.2))] [] T17 := by
                intro n
                induction n using Nat.strongRecOn with
                | ind n ih16 =>
                  intro s16 T17 hI
                  replace hw := hB16 n s16 T17 hI
                  refine t_b C (pc' := 72) (L' := [(0, vA (some o)), (1, vI p0), (2, vI (s4.1 + 1)), (3, vI (s16.1)), (4, vI (s16.2))]) (st' := [vA (some o), vI 8, vI (s16.2)]) [(.iload 4, 2), (.bipush 8, 2), (.aload_n 0, 1)] ⟨dX1_turnsKnot_67, dX1_turnsKnot_69, dX1_turnsKnot_71, rfl⟩ rfl ?_
                  refine t_gI C 250 75 dX1_turnsKnot_72 rfl rfl rfl q2238 (fun _ _ _ => rfl) ?_
                  refine t_b C (pc' := 76) (L' := [(0, vA (some o)), (1, vI p0), (2, vI (s4.1 + 1)), (3, vI (s16.1)), (4, vI (s16.2))]) (st' := [vI (8 * (T17.s 250)), vI (s16.2)]) [(.imul, 1)] ⟨dX1_turnsKnot_75, rfl⟩ rfl ?_
                  refine t_icmp_ge C 148 79 dX1_turnsKnot_76 rfl rfl (fun hc18 => ?_) (fun hc18 => ?_)
                  · replace hw := hw.1 hc18
                    refine t_goto C 49 dX1_turnsKnot_148 rfl ?_
                    refine t_sub C (L' := [(0, vA (some o)), (1, vI p0), (2, vI (s4.1 + 1)), (3, vI (s16.1))]) [0, 1, 2, 3] rfl ?_
                    obtain ⟨m9, hm9, hw⟩ := hw
                    exact ih4 m9 hm9 ((s4.1 + 1), s16.1) T17 hw
                  · replace hw := hw.2 hc18
                    refine t_b C (pc' := 80) (L' := [(0, vA (some o)), (1, vI p0), (2, vI (s4.1 + 1)), (3, vI (s16.1)), (4, vI (s16.2))]) (st' := [vA (some o)]) [(.aload_n 0, 1)] ⟨dX1_turnsKnot_79, rfl⟩ rfl ?_
                    refine t_gA C 266 36 83 dX1_turnsKnot_80 rfl rfl rfl rfl rfl q2254 (fun _ _ _ => rfl) ?_
                    refine t_b C (pc' := 85) (L' := [(0, vA (some o)), (1, vI p0), (2, vI (s4.1 + 1)), (3, vI (s16.1)), (4, vI (s16.2))]) (st' := [vI (s16.2), vA (some (o + 1 + 36))]) [(.iload 4, 2)] ⟨dX1_turnsKnot_83, rfl⟩ rfl ?_
                    refine t_zald C 86 dX1_turnsKnot_85 rfl hw.1 ?_
                    replace hw := hw.2
                    refine t_if_eq C 142 89 dX1_turnsKnot_86 rfl rfl (fun hc19 => ?_) (fun hc19 => ?_)
                    · replace hw := hw.1 hc19
                      refine t_b C (pc' := 145) (L' := [(4, vI (s16.2 + 1)), (0, vA (some o)), (1, vI p0), (2, vI (s4.1 + 1)), (3, vI (s16.1))]) (st' := []) [(.iinc 4 1, 3)] ⟨dX1_turnsKnot_142, rfl⟩ rfl ?_
                      refine t_goto C 67 dX1_turnsKnot_145 rfl ?_
                      refine t_sub C (L' := [(0, vA (some o)), (1, vI p0), (2, vI (s4.1 + 1)), (3, vI (s16.1)), (4, vI (s16.2 + 1))]) [1, 2, 3, 4, 0] rfl ?_
                      obtain ⟨m9, hm9, hw⟩ := hw
                      exact ih16 m9 hm9 (s16.1, (s16.2 + 1)) T17 hw
                    · replace hw := hw.2 hc19
                      refine t_b C (pc' := 90) (L' := [(0, vA (some o)), (1, vI p0), (2, vI (s4.1 + 1)), (3, vI (s16.1)), (4, vI (s16.2))]) (st' := [vA (some o)]) [(.aload_n 0, 1)] ⟨dX1_turnsKnot_89, rfl⟩ rfl ?_
                      refine t_gA C 259 29 93 dX1_turnsKnot_90 rfl rfl rfl rfl rfl q2247 (fun _ _ _ => rfl) ?_
                      refine t_b C (pc' := 95) (L' := [(0, vA (some o)), (1, vI p0), (2, vI (s4.1 + 1)), (3, vI (s16.1)), (4, vI (s16.2))]) (st' := [vI (s16.2), vA (some (o + 1 + 29))]) [(.iload 4, 2)] ⟨dX1_turnsKnot_93, rfl⟩ rfl ?_
                      refine t_iald C 96 dX1_turnsKnot_95 rfl hw.1 ?_
                      replace hw := hw.2
                      refine t_b C (pc' := 97) (L' := [(0, vA (some o)), (1, vI p0), (2, vI (s4.1 + 1)), (3, vI (s16.1)), (4, vI (s16.2))]) (st' := [vI p0, vI (T17.a 29 (ni s16.2))]) [(.iload_n 1, 1)] ⟨dX1_turnsKnot_96, rfl⟩ rfl ?_
                      refine t_icmp_eq C 103 100 dX1_turnsKnot_97 rfl rfl (fun hc20 => ?_) (fun hc20 => ?_)
                      · replace hw := hw.1 hc20
                        refine t_b C (pc' := 106) (L' := [(0, vA (some o)), (1, vI p0), (2, vI (s4.1 + 1)), (3, vI (s16.1)), (4, vI (s16.2))]) (st' := [vI (s16.2), vA (some o)]) [(.aload_n 0, 1), (.iload 4, 2)] ⟨dX1_turnsKnot_103, dX1_turnsKnot_104, rfl⟩ rfl ?_
                        refine t_callVI C 109 [vI (s16.2)] [] dX1_turnsKnot_106 rfl (ok_X1_worked hG hw) q2821 q2823 qs144 q159 q2824 hd_X1_worked ⟨rfl, rfl, rfl⟩ (fun r22 T21 hw => ?_)
                        refine t_b C (pc' := 112) (L' := [(5, vI r22), (0, vA (some o)), (1, vI p0), (2, vI (s4.1 + 1)), (3, vI (s16.1)), (4, vI (s16.2))]) (st' := [vI (s16.1)]) [(.istore 5, 2), (.iload_n 3, 1)] ⟨dX1_turnsKnot_109, dX1_turnsKnot_111, rfl⟩ rfl ?_
                        refine t_if_ne C 127 115 dX1_turnsKnot_112 rfl rfl (fun hc23 => ?_) (fun hc23 => ?_)
                        · replace hw := hw.2 hc23
                          refine t_b C (pc' := 128) (L' := [(5, vI r22), (0, vA (some o)), (1, vI p0), (2, vI (s4.1 + 1)), (3, vI (s16.1)), (4, vI (s16.2))]) (st' := [vI 1]) [(.iconst 1, 1)] ⟨dX1_turnsKnot_127, rfl⟩ rfl ?_
                          refine t_goto C 132 dX1_turnsKnot_128 rfl ?_
                          refine t_b C (pc' := 134) (L' := [(3, vI 1), (5, vI r22), (0, vA (some o)), (1, vI p0), (2, vI (s4.1 + 1)), (4, vI (s16.2))]) (st' := [vA (some o)]) [(.istore_n 3, 1), (.aload_n 0, 1)] ⟨dX1_turnsKnot_132, dX1_turnsKnot_133, rfl⟩ rfl ?_
                          refine t_gA C 258 28 137 dX1_turnsKnot_134 rfl rfl rfl rfl rfl q2246 (fun _ _ _ => rfl) ?_
                          refine t_b C (pc' := 141) (L' := [(3, vI 1), (5, vI r22), (0, vA (some o)), (1, vI p0), (2, vI (s4.1 + 1)), (4, vI (s16.2))]) (st' := [vI r22, vI (s16.2), vA (some (o + 1 + 28))]) [(.iload 4, 2), (.iload 5, 2)] ⟨dX1_turnsKnot_137, dX1_turnsKnot_139, rfl⟩ rfl ?_
                          refine t_iast C 142 dX1_turnsKnot_141 rfl hw.1 (fun T24 eT24 => ?_)
                          replace hw := hw.2 T24 eT24
                          refine t_b C (pc' := 145) (L' := [(4, vI (s16.2 + 1)), (3, vI 1), (5, vI r22), (0, vA (some o)), (1, vI p0), (2, vI (s4.1 + 1))]) (st' := []) [(.iinc 4 1, 3)] ⟨dX1_turnsKnot_142, rfl⟩ rfl ?_
                          refine t_goto C 67 dX1_turnsKnot_145 rfl ?_
                          refine t_sub C (L' := [(0, vA (some o)), (1, vI p0), (2, vI (s4.1 + 1)), (3, vI 1), (4, vI (s16.2 + 1))]) [3, 4, 5, 1, 0] rfl ?_
                          obtain ⟨m9, hm9, hw⟩ := hw
                          exact ih16 m9 hm9 (1, (s16.2 + 1)) T24 hw
                        · replace hw := hw.1 hc23
                          refine t_b C (pc' := 118) (L' := [(5, vI r22), (0, vA (some o)), (1, vI p0), (2, vI (s4.1 + 1)), (3, vI (s16.1)), (4, vI (s16.2))]) (st' := [vA (some o), vI r22]) [(.iload 5, 2), (.aload_n 0, 1)] ⟨dX1_turnsKnot_115, dX1_turnsKnot_117, rfl⟩ rfl ?_
                          refine t_gA C 258 28 121 dX1_turnsKnot_118 rfl rfl rfl rfl rfl q2246 (fun _ _ _ => rfl) ?_
                          refine t_b C (pc' := 123) (L' := [(5, vI r22), (0, vA (some o)), (1, vI p0), (2, vI (s4.1 + 1)), (3, vI (s16.1)), (4, vI (s16.2))]) (st' := [vI (s16.2), vA (some (o + 1 + 28)), vI r22]) [(.iload 4, 2)] ⟨dX1_turnsKnot_121, rfl⟩ rfl ?_
                          refine t_iald C 124 dX1_turnsKnot_123 rfl hw.1 ?_
                          replace hw := hw.2
                          have kj26 : ∀ (m25 : Int32), m25 = (if r22 = (T21.a 28 (ni s16.2)) then 0 else 1) → K 132 [(0, vA (some o)), (1, vI p0), (2, vI (s4.1 + 1)), (4, vI (s16.2)), (5, vI r22)] [vI m25] T21 := by
                            intro m25 em25
                            replace hw := hw m25 em25
                            refine t_b C (pc' := 134) (L' := [(3, vI m25), (0, vA (some o)), (1, vI p0), (2, vI (s4.1 + 1)), (4, vI (s16.2)), (5, vI r22)]) (st' := [vA (some o)]) [(.istore_n 3, 1), (.aload_n 0, 1)] ⟨dX1_turnsKnot_132, dX1_turnsKnot_133, rfl⟩ rfl ?_
                            refine t_gA C 258 28 137 dX1_turnsKnot_134 rfl rfl rfl rfl rfl q2246 (fun _ _ _ => rfl) ?_
                            refine t_b C (pc' := 141) (L' := [(3, vI m25), (0, vA (some o)), (1, vI p0), (2, vI (s4.1 + 1)), (4, vI (s16.2)), (5, vI r22)]) (st' := [vI r22, vI (s16.2), vA (some (o + 1 + 28))]) [(.iload 4, 2), (.iload 5, 2)] ⟨dX1_turnsKnot_137, dX1_turnsKnot_139, rfl⟩ rfl ?_
                            refine t_iast C 142 dX1_turnsKnot_141 rfl hw.1 (fun T27 eT27 => ?_)
                            replace hw := hw.2 T27 eT27
                            refine t_b C (pc' := 145) (L' := [(4, vI (s16.2 + 1)), (3, vI m25), (0, vA (some o)), (1, vI p0), (2, vI (s4.1 + 1)), (5, vI r22)]) (st' := []) [(.iinc 4 1, 3)] ⟨dX1_turnsKnot_142, rfl⟩ rfl ?_
                            refine t_goto C 67 dX1_turnsKnot_145 rfl ?_
                            refine t_sub C (L' := [(0, vA (some o)), (1, vI p0), (2, vI (s4.1 + 1)), (3, vI m25), (4, vI (s16.2 + 1))]) [2, 3, 4, 1, 0] rfl ?_
                            obtain ⟨m9, hm9, hw⟩ := hw
                            exact ih16 m9 hm9 (m25, (s16.2 + 1)) T27 hw
                          refine t_icmp_eq C 131 127 dX1_turnsKnot_124 rfl rfl (fun hc28 => ?_) (fun hc28 => ?_)
                          · refine t_b C (pc' := 132) (L' := [(5, vI r22), (0, vA (some o)), (1, vI p0), (2, vI (s4.1 + 1)), (3, vI (s16.1)), (4, vI (s16.2))]) (st' := [vI 0]) [(.iconst 0, 1)] ⟨dX1_turnsKnot_131, rfl⟩ rfl ?_
                            refine t_sub C (L' := [(0, vA (some o)), (1, vI p0), (2, vI (s4.1 + 1)), (4, vI (s16.2)), (5, vI r22)]) [1, 2, 3, 5, 0] rfl ?_
                            exact kj26 _ ((if_pos hc28).symm)
                          · refine t_b C (pc' := 128) (L' := [(5, vI r22), (0, vA (some o)), (1, vI p0), (2, vI (s4.1 + 1)), (3, vI (s16.1)), (4, vI (s16.2))]) (st' := [vI 1]) [(.iconst 1, 1)] ⟨dX1_turnsKnot_127, rfl⟩ rfl ?_
                            refine t_goto C 132 dX1_turnsKnot_128 rfl ?_
                            refine t_sub C (L' := [(0, vA (some o)), (1, vI p0), (2, vI (s4.1 + 1)), (4, vI (s16.2)), (5, vI r22)]) [1, 2, 3, 5, 0] rfl ?_
                            exact kj26 _ ((if_neg hc28).symm)
                      · replace hw := hw.2 hc20
                        refine t_goto C 142 dX1_turnsKnot_100 rfl ?_
                        refine t_b C (pc' := 145) (L' := [(4, vI (s16.2 + 1)), (0, vA (some o)), (1, vI p0), (2, vI (s4.1 + 1)), (3, vI (s16.1))]) (st' := []) [(.iinc 4 1, 3)] ⟨dX1_turnsKnot_142, rfl⟩ rfl ?_
                        refine t_goto C 67 dX1_turnsKnot_145 rfl ?_
                        refine t_sub C (L' := [(0, vA (some o)), (1, vI p0), (2, vI (s4.1 + 1)), (3, vI (s16.1)), (4, vI (s16.2 + 1))]) [1, 2, 3, 4, 0] rfl ?_
                        obtain ⟨m9, hm9, hw⟩ := hw
                        exact ih16 m9 hm9 (s16.1, (s16.2 + 1)) T17 hw
              exact key16 n16 (0, 0) T5 hI16
            refine t_if_eq C 151 53 dX1_turnsKnot_50 rfl rfl (fun hc29 => ?_) (fun hc29 => ?_)
            · exact kx6 (Or.inl hc29)
            · refine t_b C (pc' := 56) (L' := [(0, vA (some o)), (1, vI p0), (2, vI (s4.1)), (3, vI (s4.2))]) (st' := [vI 64, vI (s4.1)]) [(.iload_n 2, 1), (.bipush 64, 2)] ⟨dX1_turnsKnot_53, dX1_turnsKnot_54, rfl⟩ rfl ?_
              refine t_icmp_ge C 151 59 dX1_turnsKnot_56 rfl rfl (fun hc30 => ?_) (fun hc30 => ?_)
              · exact kx6 (Or.inr hc30)
              · refine t_b C (pc' := 67) (L' := [(4, vI 0), (2, vI (s4.1 + 1)), (3, vI 0), (0, vA (some o)), (1, vI p0)]) (st' := []) [(.iconst 0, 1), (.istore_n 3, 1), (.iinc 2 1, 3), (.iconst 0, 1), (.istore 4, 2)] ⟨dX1_turnsKnot_59, dX1_turnsKnot_60, dX1_turnsKnot_61, dX1_turnsKnot_64, dX1_turnsKnot_65, rfl⟩ rfl ?_
                exact ky7 (fun h0 => h0.elim hc29 hc30)
        exact key4 n4 (0, 1) T2 hI4
      · replace hw := hw.2 hc3
        refine t_b C (pc' := 14) (L' := [(0, vA (some o)), (1, vI p0), (2, vI s1)]) (st' := [vA (some o)]) [(.aload_n 0, 1)] ⟨dX1_turnsKnot_13, rfl⟩ rfl ?_
        refine t_gA C 266 36 17 dX1_turnsKnot_14 rfl rfl rfl rfl rfl q2254 (fun _ _ _ => rfl) ?_
        refine t_b C (pc' := 18) (L' := [(0, vA (some o)), (1, vI p0), (2, vI s1)]) (st' := [vI s1, vA (some (o + 1 + 36))]) [(.iload_n 2, 1)] ⟨dX1_turnsKnot_17, rfl⟩ rfl ?_
        refine t_zald C 19 dX1_turnsKnot_18 rfl hw.1 ?_
        replace hw := hw.2
        refine t_if_eq C 39 22 dX1_turnsKnot_19 rfl rfl (fun hc31 => ?_) (fun hc31 => ?_)
        · replace hw := hw.1 hc31
          refine t_b C (pc' := 42) (L' := [(2, vI (s1 + 1)), (0, vA (some o)), (1, vI p0)]) (st' := []) [(.iinc 2 1, 3)] ⟨dX1_turnsKnot_39, rfl⟩ rfl ?_
          refine t_goto C 2 dX1_turnsKnot_42 rfl ?_
          refine t_sub C (L' := [(0, vA (some o)), (1, vI p0), (2, vI (s1 + 1))]) [1, 2, 0] rfl ?_
          obtain ⟨m9, hm9, hw⟩ := hw
          exact ih1 m9 hm9 (s1 + 1) T2 hw
        · replace hw := hw.2 hc31
          refine t_b C (pc' := 23) (L' := [(0, vA (some o)), (1, vI p0), (2, vI s1)]) (st' := [vA (some o)]) [(.aload_n 0, 1)] ⟨dX1_turnsKnot_22, rfl⟩ rfl ?_
          refine t_gA C 259 29 26 dX1_turnsKnot_23 rfl rfl rfl rfl rfl q2247 (fun _ _ _ => rfl) ?_
          refine t_b C (pc' := 27) (L' := [(0, vA (some o)), (1, vI p0), (2, vI s1)]) (st' := [vI s1, vA (some (o + 1 + 29))]) [(.iload_n 2, 1)] ⟨dX1_turnsKnot_26, rfl⟩ rfl ?_
          refine t_iald C 28 dX1_turnsKnot_27 rfl hw.1 ?_
          replace hw := hw.2
          refine t_b C (pc' := 29) (L' := [(0, vA (some o)), (1, vI p0), (2, vI s1)]) (st' := [vI p0, vI (T2.a 29 (ni s1))]) [(.iload_n 1, 1)] ⟨dX1_turnsKnot_28, rfl⟩ rfl ?_
          refine t_icmp_ne C 39 32 dX1_turnsKnot_29 rfl rfl (fun hc32 => ?_) (fun hc32 => ?_)
          · replace hw := hw.2 hc32
            refine t_b C (pc' := 42) (L' := [(2, vI (s1 + 1)), (0, vA (some o)), (1, vI p0)]) (st' := []) [(.iinc 2 1, 3)] ⟨dX1_turnsKnot_39, rfl⟩ rfl ?_
            refine t_goto C 2 dX1_turnsKnot_42 rfl ?_
            refine t_sub C (L' := [(0, vA (some o)), (1, vI p0), (2, vI (s1 + 1))]) [1, 2, 0] rfl ?_
            obtain ⟨m9, hm9, hw⟩ := hw
            exact ih1 m9 hm9 (s1 + 1) T2 hw
          · replace hw := hw.1 hc32
            refine t_b C (pc' := 33) (L' := [(0, vA (some o)), (1, vI p0), (2, vI s1)]) (st' := [vA (some o)]) [(.aload_n 0, 1)] ⟨dX1_turnsKnot_32, rfl⟩ rfl ?_
            refine t_gA C 258 28 36 dX1_turnsKnot_33 rfl rfl rfl rfl rfl q2246 (fun _ _ _ => rfl) ?_
            refine t_b C (pc' := 38) (L' := [(0, vA (some o)), (1, vI p0), (2, vI s1)]) (st' := [vI 0, vI s1, vA (some (o + 1 + 28))]) [(.iload_n 2, 1), (.iconst 0, 1)] ⟨dX1_turnsKnot_36, dX1_turnsKnot_37, rfl⟩ rfl ?_
            refine t_iast C 39 dX1_turnsKnot_38 rfl hw.1 (fun T33 eT33 => ?_)
            replace hw := hw.2 T33 eT33
            refine t_b C (pc' := 42) (L' := [(2, vI (s1 + 1)), (0, vA (some o)), (1, vI p0)]) (st' := []) [(.iinc 2 1, 3)] ⟨dX1_turnsKnot_39, rfl⟩ rfl ?_
            refine t_goto C 2 dX1_turnsKnot_42 rfl ?_
            refine t_sub C (L' := [(0, vA (some o)), (1, vI p0), (2, vI (s1 + 1))]) [1, 2, 0] rfl ?_
            obtain ⟨m9, hm9, hw⟩ := hw
            exact ih1 m9 hm9 (s1 + 1) T33 hw
  exact key1 n1 0 T hI1
def wp_X1_settles  (T : TS) (Q : TS → Prop) : Prop :=
  wp_X1_laysBases  T fun T1 =>
  wp_X1_laysReach  T1 fun T3 =>
  wp_X1_laysKnots  T3 fun T5 =>
  tlp (σ := Int32) (fun s7 T8 k7 =>
  ((320 ≤ s7 →
  ∀ T10, T10 = T8.ss 272 0 →
  tlp (σ := Int32) (fun s11 T12 k11 =>
  ((s11 = 0 →
  Q T12) ∧ (¬ s11 = 0 →
  tlp (σ := Int32 × Int32) (fun s14 T15 k14 =>
  (((8 * (T15.s 250)) ≤ s14.2 →
  k11 s14.1 T15) ∧ (¬ (8 * (T15.s 250)) ≤ s14.2 →
  tix 36 42 s14.2 ∧
  (((T15.a 36 (ni s14.2)) = 0 →
  k14 (s14.1, (s14.2 + 1)) T15) ∧ (¬ (T15.a 36 (ni s14.2)) = 0 →
  tix 38 42 s14.2 ∧
  (((T15.a 38 (ni s14.2)) = 0 →
  tix 29 40 s14.2 ∧
  (((T15.a 29 (ni s14.2)) = (-1) →
  wp_X1_isReady (s14.2) T15 fun r52 T51 =>
  ((r52 = 0 →
  k14 (s14.1, (s14.2 + 1)) T51) ∧ (¬ r52 = 0 →
  tix 29 40 s14.2 ∧
  (((T51.a 29 (ni s14.2)) = (-1) →
  tix 29 40 s14.2 ∧
  tjn (α := Unit) (fun J56 =>
  (((T51.a 29 (ni s14.2)) = (-1) →
  wp_X1_worked (s14.2) T51 fun r61 T60 =>
  tix 28 40 s14.2 ∧
  ∀ T62, T62 = T60.sa 28 (ni s14.2) r61 →
  tix 38 42 s14.2 ∧
  ∀ T63, T63 = T62.sa 38 (ni s14.2) (vp_nar .boolean 1) →
  J56 () T63) ∧ (¬ (T51.a 29 (ni s14.2)) = (-1) →
  wp_X1_turnsKnot (s14.2) T51 fun T58 =>
  J56 () T58))) (fun x64 T65 =>
  tix 31 40 (T65.s 272) ∧
  ∀ T66, T66 = T65.sa 31 (ni (T65.s 272)) s14.2 →
  ∀ T67, T67 = T66.ss 272 ((T66.s 272) + 1) →
  k14 (1, (s14.2 + 1)) T67)) ∧ (¬ (T51.a 29 (ni s14.2)) = (-1) →
  tix 29 40 s14.2 ∧
  (((T51.a 29 (ni s14.2)) = s14.2 →
  wp_X1_isKnotReady (s14.2) T51 fun r70 T69 =>
  ((r70 = 0 →
  k14 (s14.1, (s14.2 + 1)) T69) ∧ (¬ r70 = 0 →
  tix 29 40 s14.2 ∧
  tjn (α := Unit) (fun J73 =>
  (((T69.a 29 (ni s14.2)) = (-1) →
  wp_X1_worked (s14.2) T69 fun r78 T77 =>
  tix 28 40 s14.2 ∧
  ∀ T79, T79 = T77.sa 28 (ni s14.2) r78 →
  tix 38 42 s14.2 ∧
  ∀ T80, T80 = T79.sa 38 (ni s14.2) (vp_nar .boolean 1) →
  J73 () T80) ∧ (¬ (T69.a 29 (ni s14.2)) = (-1) →
  wp_X1_turnsKnot (s14.2) T69 fun T75 =>
  J73 () T75))) (fun x81 T82 =>
  tix 31 40 (T82.s 272) ∧
  ∀ T83, T83 = T82.sa 31 (ni (T82.s 272)) s14.2 →
  ∀ T84, T84 = T83.ss 272 ((T83.s 272) + 1) →
  k14 (1, (s14.2 + 1)) T84)))) ∧ (¬ (T51.a 29 (ni s14.2)) = s14.2 →
  k14 (s14.1, (s14.2 + 1)) T51))))))) ∧ (¬ (T15.a 29 (ni s14.2)) = (-1) →
  tix 29 40 s14.2 ∧
  (((T15.a 29 (ni s14.2)) = (-1) →
  tix 29 40 s14.2 ∧
  tjn (α := Unit) (fun J22 =>
  (((T15.a 29 (ni s14.2)) = (-1) →
  wp_X1_worked (s14.2) T15 fun r27 T26 =>
  tix 28 40 s14.2 ∧
  ∀ T28, T28 = T26.sa 28 (ni s14.2) r27 →
  tix 38 42 s14.2 ∧
  ∀ T29, T29 = T28.sa 38 (ni s14.2) (vp_nar .boolean 1) →
  J22 () T29) ∧ (¬ (T15.a 29 (ni s14.2)) = (-1) →
  wp_X1_turnsKnot (s14.2) T15 fun T24 =>
  J22 () T24))) (fun x30 T31 =>
  tix 31 40 (T31.s 272) ∧
  ∀ T32, T32 = T31.sa 31 (ni (T31.s 272)) s14.2 →
  ∀ T33, T33 = T32.ss 272 ((T32.s 272) + 1) →
  k14 (1, (s14.2 + 1)) T33)) ∧ (¬ (T15.a 29 (ni s14.2)) = (-1) →
  tix 29 40 s14.2 ∧
  (((T15.a 29 (ni s14.2)) = s14.2 →
  wp_X1_isKnotReady (s14.2) T15 fun r36 T35 =>
  ((r36 = 0 →
  k14 (s14.1, (s14.2 + 1)) T35) ∧ (¬ r36 = 0 →
  tix 29 40 s14.2 ∧
  tjn (α := Unit) (fun J39 =>
  (((T35.a 29 (ni s14.2)) = (-1) →
  wp_X1_worked (s14.2) T35 fun r44 T43 =>
  tix 28 40 s14.2 ∧
  ∀ T45, T45 = T43.sa 28 (ni s14.2) r44 →
  tix 38 42 s14.2 ∧
  ∀ T46, T46 = T45.sa 38 (ni s14.2) (vp_nar .boolean 1) →
  J39 () T46) ∧ (¬ (T35.a 29 (ni s14.2)) = (-1) →
  wp_X1_turnsKnot (s14.2) T35 fun T41 =>
  J39 () T41))) (fun x47 T48 =>
  tix 31 40 (T48.s 272) ∧
  ∀ T49, T49 = T48.sa 31 (ni (T48.s 272)) s14.2 →
  ∀ T50, T50 = T49.ss 272 ((T49.s 272) + 1) →
  k14 (1, (s14.2 + 1)) T50)))) ∧ (¬ (T15.a 29 (ni s14.2)) = s14.2 →
  k14 (s14.1, (s14.2 + 1)) T15))))))) ∧ (¬ (T15.a 38 (ni s14.2)) = 0 →
  k14 (s14.1, (s14.2 + 1)) T15))))))) (0, 0) T12))) 1 T10) ∧ (¬ 320 ≤ s7 →
  tix 38 42 s7 ∧
  ∀ T85, T85 = T8.sa 38 (ni s7) (vp_nar .boolean 0) →
  k7 (s7 + 1) T85))) 0 T5
theorem hd_X1_settles : yX1_settles.cls = RX1 ∧ yX1_settles.cls ≠ "java/lang/invoke/MethodHandle" ∧ yX1_settles.cls ≠ "java/lang/invoke/VarHandle" ∧ (parseMethodDescriptor yX1_settles.desc).map (fun d => d.parameters.length) = some 0 := by decide +kernel
theorem ok_X1_settles {l : Launch} {D : va_G} {s0 : S0} (hG : G0 D s0) {o : Nat}  {T : TS} {Q : TS → Prop} (hw : wp_X1_settles  T Q) : OKt l D s0 o yX1_settles cX1_settles 3 none 4 97 [vA (some o)] T (TV Q) := by
  refine t_met hG rfl rfl (L0 := [(0, vA (some o))]) rfl rfl ?_
  intro h K C
  unfold wp_X1_settles at hw
  refine t_b C (pc' := 1) (L' := [(0, vA (some o))]) (st' := [vA (some o)]) [(.aload_n 0, 1)] ⟨dX1_settles_0, rfl⟩ rfl ?_
  refine t_callVV C 4 [] [] dX1_settles_1 rfl (ok_X1_laysBases hG hw) q2770 q2772 qs132 q159 q2773 hd_X1_laysBases ⟨rfl, rfl, rfl⟩ (fun T1 hw => ?_)
  refine t_b C (pc' := 5) (L' := [(0, vA (some o))]) (st' := [vA (some o)]) [(.aload_n 0, 1)] ⟨dX1_settles_4, rfl⟩ rfl ?_
  refine t_callVV C 8 [] [] dX1_settles_5 rfl (ok_X1_laysReach hG hw) q2790 q2792 qs137 q159 q2793 hd_X1_laysReach ⟨rfl, rfl, rfl⟩ (fun T3 hw => ?_)
  refine t_b C (pc' := 9) (L' := [(0, vA (some o))]) (st' := [vA (some o)]) [(.aload_n 0, 1)] ⟨dX1_settles_8, rfl⟩ rfl ?_
  refine t_callVV C 12 [] [] dX1_settles_9 rfl (ok_X1_laysKnots hG hw) q2809 q2811 qs141 q159 q2812 hd_X1_laysKnots ⟨rfl, rfl, rfl⟩ (fun T5 hw => ?_)
  refine t_b C (pc' := 14) (L' := [(1, vI 0), (0, vA (some o))]) (st' := []) [(.iconst 0, 1), (.istore_n 1, 1)] ⟨dX1_settles_12, dX1_settles_13, rfl⟩ rfl ?_
  obtain ⟨I7, ⟨n7, hI7⟩, hB7⟩ := tlp.out hw
  refine t_sub C (L' := [(0, vA (some o)), (1, vI 0)]) [1, 0] rfl ?_
  have key7 : ∀ (n : Nat) (s7 : Int32) (T8 : TS), I7 n s7 T8 → K 14 [(0, vA (some o)), (1, vI s7)] [] T8 := by
    intro n
    induction n using Nat.strongRecOn with
    | ind n ih7 =>
      intro s7 T8 hI
      replace hw := hB7 n s7 T8 hI
      refine t_b C (pc' := 18) (L' := [(0, vA (some o)), (1, vI s7)]) (st' := [vI 320, vI s7]) [(.iload_n 1, 1), (.sipush 320, 3)] ⟨dX1_settles_14, dX1_settles_15, rfl⟩ rfl ?_
      refine t_icmp_ge C 34 21 dX1_settles_18 rfl rfl (fun hc9 => ?_) (fun hc9 => ?_)
      · replace hw := hw.1 hc9
        refine t_b C (pc' := 36) (L' := [(0, vA (some o)), (1, vI s7)]) (st' := [vI 0, vA (some o)]) [(.aload_n 0, 1), (.iconst 0, 1)] ⟨dX1_settles_34, dX1_settles_35, rfl⟩ rfl ?_
        refine t_pI C 272 39 dX1_settles_36 rfl rfl rfl rfl q2260 (fun _ _ _ => rfl) rfl rfl (fun T10 eT10 => ?_)
        replace hw := hw T10 eT10
        refine t_b C (pc' := 41) (L' := [(1, vI 1), (0, vA (some o))]) (st' := []) [(.iconst 1, 1), (.istore_n 1, 1)] ⟨dX1_settles_39, dX1_settles_40, rfl⟩ rfl ?_
        obtain ⟨I11, ⟨n11, hI11⟩, hB11⟩ := tlp.out hw
        refine t_sub C (L' := [(0, vA (some o)), (1, vI 1)]) [1, 0] rfl ?_
        have key11 : ∀ (n : Nat) (s11 : Int32) (T12 : TS), I11 n s11 T12 → K 41 [(0, vA (some o)), (1, vI s11)] [] T12 := by
          intro n
          induction n using Nat.strongRecOn with
          | ind n ih11 =>
            intro s11 T12 hI
            replace hw := hB11 n s11 T12 hI
            refine t_b C (pc' := 42) (L' := [(0, vA (some o)), (1, vI s11)]) (st' := [vI s11]) [(.iload_n 1, 1)] ⟨dX1_settles_41, rfl⟩ rfl ?_
            refine t_if_eq C 194 45 dX1_settles_42 rfl rfl (fun hc13 => ?_) (fun hc13 => ?_)
            · replace hw := hw.1 hc13
              exact t_vret C dX1_settles_194 ⟨rfl, hw⟩
            · replace hw := hw.2 hc13
              refine t_b C (pc' := 49) (L' := [(2, vI 0), (1, vI 0), (0, vA (some o))]) (st' := []) [(.iconst 0, 1), (.istore_n 1, 1), (.iconst 0, 1), (.istore_n 2, 1)] ⟨dX1_settles_45, dX1_settles_46, dX1_settles_47, dX1_settles_48, rfl⟩ rfl ?_
              obtain ⟨I14, ⟨n14, hI14⟩, hB14⟩ := tlp.out hw
              refine t_sub C (L' := [(0, vA (some o)), (1, vI 0), (2, vI 0)]) [2, 1, 0] rfl ?_
              have key14 : ∀ (n : Nat) (s14 : Int32 × Int32) (T15 : TS), I14 n s14 T15 → K 49 [(0, vA (some o)), (1, vI (s14.1)), (2, vI (s14.2))] [] T15 := by
                intro n
                induction n using Nat.strongRecOn with
                | ind n ih14 =>
                  intro s14 T15 hI
                  replace hw := hB14 n s14 T15 hI
                  refine t_b C (pc' := 53) (L' := [(0, vA (some o)), (1, vI (s14.1)), (2, vI (s14.2))]) (st' := [vA (some o), vI 8, vI (s14.2)]) [(.iload_n 2, 1), (.bipush 8, 2), (.aload_n 0, 1)] ⟨dX1_settles_49, dX1_settles_50, dX1_settles_52, rfl⟩ rfl ?_
                  refine t_gI C 250 56 dX1_settles_53 rfl rfl rfl q2238 (fun _ _ _ => rfl) ?_
                  refine t_b C (pc' := 57) (L' := [(0, vA (some o)), (1, vI (s14.1)), (2, vI (s14.2))]) (st' := [vI (8 * (T15.s 250)), vI (s14.2)]) [(.imul, 1)] ⟨dX1_settles_56, rfl⟩ rfl ?_
                  refine t_icmp_ge C 191 60 dX1_settles_57 rfl rfl (fun hc16 => ?_) (fun hc16 => ?_)
                  · replace hw := hw.1 hc16
                    refine t_goto C 41 dX1_settles_191 rfl ?_
                    refine t_sub C (L' := [(0, vA (some o)), (1, vI (s14.1))]) [0, 1] rfl ?_
                    obtain ⟨m9, hm9, hw⟩ := hw
                    exact ih11 m9 hm9 s14.1 T15 hw
                  · replace hw := hw.2 hc16
                    refine t_b C (pc' := 61) (L' := [(0, vA (some o)), (1, vI (s14.1)), (2, vI (s14.2))]) (st' := [vA (some o)]) [(.aload_n 0, 1)] ⟨dX1_settles_60, rfl⟩ rfl ?_
                    refine t_gA C 266 36 64 dX1_settles_61 rfl rfl rfl rfl rfl q2254 (fun _ _ _ => rfl) ?_
                    refine t_b C (pc' := 65) (L' := [(0, vA (some o)), (1, vI (s14.1)), (2, vI (s14.2))]) (st' := [vI (s14.2), vA (some (o + 1 + 36))]) [(.iload_n 2, 1)] ⟨dX1_settles_64, rfl⟩ rfl ?_
                    refine t_zald C 66 dX1_settles_65 rfl hw.1 ?_
                    replace hw := hw.2
                    refine t_if_eq C 185 69 dX1_settles_66 rfl rfl (fun hc17 => ?_) (fun hc17 => ?_)
                    · replace hw := hw.1 hc17
                      refine t_b C (pc' := 188) (L' := [(2, vI (s14.2 + 1)), (0, vA (some o)), (1, vI (s14.1))]) (st' := []) [(.iinc 2 1, 3)] ⟨dX1_settles_185, rfl⟩ rfl ?_
                      refine t_goto C 49 dX1_settles_188 rfl ?_
                      refine t_sub C (L' := [(0, vA (some o)), (1, vI (s14.1)), (2, vI (s14.2 + 1))]) [1, 2, 0] rfl ?_
                      obtain ⟨m9, hm9, hw⟩ := hw
                      exact ih14 m9 hm9 (s14.1, (s14.2 + 1)) T15 hw
                    · replace hw := hw.2 hc17
                      refine t_b C (pc' := 70) (L' := [(0, vA (some o)), (1, vI (s14.1)), (2, vI (s14.2))]) (st' := [vA (some o)]) [(.aload_n 0, 1)] ⟨dX1_settles_69, rfl⟩ rfl ?_
                      refine t_gA C 268 38 73 dX1_settles_70 rfl rfl rfl rfl rfl q2256 (fun _ _ _ => rfl) ?_
                      refine t_b C (pc' := 74) (L' := [(0, vA (some o)), (1, vI (s14.1)), (2, vI (s14.2))]) (st' := [vI (s14.2), vA (some (o + 1 + 38))]) [(.iload_n 2, 1)] ⟨dX1_settles_73, rfl⟩ rfl ?_
                      refine t_zald C 75 dX1_settles_74 rfl hw.1 ?_
                      replace hw := hw.2
                      refine t_if_ne C 185 78 dX1_settles_75 rfl rfl (fun hc18 => ?_) (fun hc18 => ?_)
                      · replace hw := hw.2 hc18
                        refine t_b C (pc' := 188) (L' := [(2, vI (s14.2 + 1)), (0, vA (some o)), (1, vI (s14.1))]) (st' := []) [(.iinc 2 1, 3)] ⟨dX1_settles_185, rfl⟩ rfl ?_
                        refine t_goto C 49 dX1_settles_188 rfl ?_
                        refine t_sub C (L' := [(0, vA (some o)), (1, vI (s14.1)), (2, vI (s14.2 + 1))]) [1, 2, 0] rfl ?_
                        obtain ⟨m9, hm9, hw⟩ := hw
                        exact ih14 m9 hm9 (s14.1, (s14.2 + 1)) T15 hw
                      · replace hw := hw.1 hc18
                        refine t_b C (pc' := 79) (L' := [(0, vA (some o)), (1, vI (s14.1)), (2, vI (s14.2))]) (st' := [vA (some o)]) [(.aload_n 0, 1)] ⟨dX1_settles_78, rfl⟩ rfl ?_
                        refine t_gA C 259 29 82 dX1_settles_79 rfl rfl rfl rfl rfl q2247 (fun _ _ _ => rfl) ?_
                        refine t_b C (pc' := 83) (L' := [(0, vA (some o)), (1, vI (s14.1)), (2, vI (s14.2))]) (st' := [vI (s14.2), vA (some (o + 1 + 29))]) [(.iload_n 2, 1)] ⟨dX1_settles_82, rfl⟩ rfl ?_
                        refine t_iald C 84 dX1_settles_83 rfl hw.1 ?_
                        replace hw := hw.2
                        refine t_b C (pc' := 85) (L' := [(0, vA (some o)), (1, vI (s14.1)), (2, vI (s14.2))]) (st' := [vI (-1), vI (T15.a 29 (ni s14.2))]) [(.iconst (-1), 1)] ⟨dX1_settles_84, rfl⟩ rfl ?_
                        refine t_icmp_ne C 96 88 dX1_settles_85 rfl rfl (fun hc19 => ?_) (fun hc19 => ?_)
                        · replace hw := hw.2 hc19
                          refine t_b C (pc' := 97) (L' := [(0, vA (some o)), (1, vI (s14.1)), (2, vI (s14.2))]) (st' := [vA (some o)]) [(.aload_n 0, 1)] ⟨dX1_settles_96, rfl⟩ rfl ?_
                          refine t_gA C 259 29 100 dX1_settles_97 rfl rfl rfl rfl rfl q2247 (fun _ _ _ => rfl) ?_
                          refine t_b C (pc' := 101) (L' := [(0, vA (some o)), (1, vI (s14.1)), (2, vI (s14.2))]) (st' := [vI (s14.2), vA (some (o + 1 + 29))]) [(.iload_n 2, 1)] ⟨dX1_settles_100, rfl⟩ rfl ?_
                          refine t_iald C 102 dX1_settles_101 rfl hw.1 ?_
                          replace hw := hw.2
                          refine t_b C (pc' := 103) (L' := [(0, vA (some o)), (1, vI (s14.1)), (2, vI (s14.2))]) (st' := [vI (-1), vI (T15.a 29 (ni s14.2))]) [(.iconst (-1), 1)] ⟨dX1_settles_102, rfl⟩ rfl ?_
                          refine t_icmp_eq C 127 106 dX1_settles_103 rfl rfl (fun hc20 => ?_) (fun hc20 => ?_)
                          · replace hw := hw.1 hc20
                            refine t_b C (pc' := 128) (L' := [(0, vA (some o)), (1, vI (s14.1)), (2, vI (s14.2))]) (st' := [vA (some o)]) [(.aload_n 0, 1)] ⟨dX1_settles_127, rfl⟩ rfl ?_
                            refine t_gA C 259 29 131 dX1_settles_128 rfl rfl rfl rfl rfl q2247 (fun _ _ _ => rfl) ?_
                            refine t_b C (pc' := 132) (L' := [(0, vA (some o)), (1, vI (s14.1)), (2, vI (s14.2))]) (st' := [vI (s14.2), vA (some (o + 1 + 29))]) [(.iload_n 2, 1)] ⟨dX1_settles_131, rfl⟩ rfl ?_
                            refine t_iald C 133 dX1_settles_132 rfl hw.1 ?_
                            replace hw := hw.2
                            refine t_b C (pc' := 134) (L' := [(0, vA (some o)), (1, vI (s14.1)), (2, vI (s14.2))]) (st' := [vI (-1), vI (T15.a 29 (ni s14.2))]) [(.iconst (-1), 1)] ⟨dX1_settles_133, rfl⟩ rfl ?_
                            obtain ⟨J22, hw, hJ22⟩ := tjn.out hw
                            have kj21 : ∀ (x30 : Unit) (T31 : TS), J22 x30 T31 → K 163 [(0, vA (some o)), (2, vI (s14.2))] [] T31 := by
                              intro x30 T31 hj
                              replace hw := hJ22 x30 T31 hj
                              refine t_b C (pc' := 164) (L' := [(0, vA (some o)), (2, vI (s14.2))]) (st' := [vA (some o)]) [(.aload_n 0, 1)] ⟨dX1_settles_163, rfl⟩ rfl ?_
                              refine t_gA C 261 31 167 dX1_settles_164 rfl rfl rfl rfl rfl q2249 (fun _ _ _ => rfl) ?_
                              refine t_b C (pc' := 168) (L' := [(0, vA (some o)), (2, vI (s14.2))]) (st' := [vA (some o), vA (some (o + 1 + 31))]) [(.aload_n 0, 1)] ⟨dX1_settles_167, rfl⟩ rfl ?_
                              refine t_gI C 272 171 dX1_settles_168 rfl rfl rfl q2260 (fun _ _ _ => rfl) ?_
                              refine t_b C (pc' := 172) (L' := [(0, vA (some o)), (2, vI (s14.2))]) (st' := [vI (s14.2), vI (T31.s 272), vA (some (o + 1 + 31))]) [(.iload_n 2, 1)] ⟨dX1_settles_171, rfl⟩ rfl ?_
                              refine t_iast C 173 dX1_settles_172 rfl hw.1 (fun T32 eT32 => ?_)
                              replace hw := hw.2 T32 eT32
                              refine t_b C (pc' := 175) (L' := [(0, vA (some o)), (2, vI (s14.2))]) (st' := [vA (some o), vA (some o)]) [(.aload_n 0, 1), (.dup, 1)] ⟨dX1_settles_173, dX1_settles_174, rfl⟩ rfl ?_
                              refine t_gI C 272 178 dX1_settles_175 rfl rfl rfl q2260 (fun _ _ _ => rfl) ?_
                              refine t_b C (pc' := 180) (L' := [(0, vA (some o)), (2, vI (s14.2))]) (st' := [vI ((T32.s 272) + 1), vA (some o)]) [(.iconst 1, 1), (.iadd, 1)] ⟨dX1_settles_178, dX1_settles_179, rfl⟩ rfl ?_
                              refine t_pI C 272 183 dX1_settles_180 rfl rfl rfl rfl q2260 (fun _ _ _ => rfl) rfl rfl (fun T33 eT33 => ?_)
                              replace hw := hw T33 eT33
                              refine t_b C (pc' := 188) (L' := [(2, vI (s14.2 + 1)), (1, vI 1), (0, vA (some o))]) (st' := []) [(.iconst 1, 1), (.istore_n 1, 1), (.iinc 2 1, 3)] ⟨dX1_settles_183, dX1_settles_184, dX1_settles_185, rfl⟩ rfl ?_
                              refine t_goto C 49 dX1_settles_188 rfl ?_
                              refine t_sub C (L' := [(0, vA (some o)), (1, vI 1), (2, vI (s14.2 + 1))]) [2, 1, 0] rfl ?_
                              obtain ⟨m9, hm9, hw⟩ := hw
                              exact ih14 m9 hm9 (1, (s14.2 + 1)) T33 hw
                            refine t_icmp_ne C 158 137 dX1_settles_134 rfl rfl (fun hc23 => ?_) (fun hc23 => ?_)
                            · replace hw := hw.2 hc23
                              refine t_b C (pc' := 160) (L' := [(0, vA (some o)), (1, vI (s14.1)), (2, vI (s14.2))]) (st' := [vI (s14.2), vA (some o)]) [(.aload_n 0, 1), (.iload_n 2, 1)] ⟨dX1_settles_158, dX1_settles_159, rfl⟩ rfl ?_
                              refine t_callVV C 163 [vI (s14.2)] [] dX1_settles_160 rfl (ok_X1_turnsKnot hG hw) q2829 q2831 qs145 q159 q2832 hd_X1_turnsKnot ⟨rfl, rfl, rfl⟩ (fun T24 hw => ?_)
                              refine t_sub C (L' := [(0, vA (some o)), (2, vI (s14.2))]) [0, 2] rfl ?_
                              exact kj21 () T24 hw
                            · replace hw := hw.1 hc23
                              refine t_b C (pc' := 138) (L' := [(0, vA (some o)), (1, vI (s14.1)), (2, vI (s14.2))]) (st' := [vA (some o)]) [(.aload_n 0, 1)] ⟨dX1_settles_137, rfl⟩ rfl ?_
                              refine t_gA C 258 28 141 dX1_settles_138 rfl rfl rfl rfl rfl q2246 (fun _ _ _ => rfl) ?_
                              refine t_b C (pc' := 144) (L' := [(0, vA (some o)), (1, vI (s14.1)), (2, vI (s14.2))]) (st' := [vI (s14.2), vA (some o), vI (s14.2), vA (some (o + 1 + 28))]) [(.iload_n 2, 1), (.aload_n 0, 1), (.iload_n 2, 1)] ⟨dX1_settles_141, dX1_settles_142, dX1_settles_143, rfl⟩ rfl ?_
                              refine t_callVI C 147 [vI (s14.2)] [vI (s14.2), vA (some (o + 1 + 28))] dX1_settles_144 rfl (ok_X1_worked hG hw) q2821 q2823 qs144 q159 q2824 hd_X1_worked ⟨rfl, rfl, rfl⟩ (fun r27 T26 hw => ?_)
                              refine t_iast C 148 dX1_settles_147 rfl hw.1 (fun T28 eT28 => ?_)
                              replace hw := hw.2 T28 eT28
                              refine t_b C (pc' := 149) (L' := [(0, vA (some o)), (1, vI (s14.1)), (2, vI (s14.2))]) (st' := [vA (some o)]) [(.aload_n 0, 1)] ⟨dX1_settles_148, rfl⟩ rfl ?_
                              refine t_gA C 268 38 152 dX1_settles_149 rfl rfl rfl rfl rfl q2256 (fun _ _ _ => rfl) ?_
                              refine t_b C (pc' := 154) (L' := [(0, vA (some o)), (1, vI (s14.1)), (2, vI (s14.2))]) (st' := [vI 1, vI (s14.2), vA (some (o + 1 + 38))]) [(.iload_n 2, 1), (.iconst 1, 1)] ⟨dX1_settles_152, dX1_settles_153, rfl⟩ rfl ?_
                              refine t_zast C 155 dX1_settles_154 rfl hw.1 (fun T29 eT29 => ?_)
                              replace hw := hw.2 T29 eT29
                              refine t_goto C 163 dX1_settles_155 rfl ?_
                              refine t_sub C (L' := [(0, vA (some o)), (2, vI (s14.2))]) [0, 2] rfl ?_
                              exact kj21 () T29 hw
                          · replace hw := hw.2 hc20
                            refine t_b C (pc' := 107) (L' := [(0, vA (some o)), (1, vI (s14.1)), (2, vI (s14.2))]) (st' := [vA (some o)]) [(.aload_n 0, 1)] ⟨dX1_settles_106, rfl⟩ rfl ?_
                            refine t_gA C 259 29 110 dX1_settles_107 rfl rfl rfl rfl rfl q2247 (fun _ _ _ => rfl) ?_
                            refine t_b C (pc' := 111) (L' := [(0, vA (some o)), (1, vI (s14.1)), (2, vI (s14.2))]) (st' := [vI (s14.2), vA (some (o + 1 + 29))]) [(.iload_n 2, 1)] ⟨dX1_settles_110, rfl⟩ rfl ?_
                            refine t_iald C 112 dX1_settles_111 rfl hw.1 ?_
                            replace hw := hw.2
                            refine t_b C (pc' := 113) (L' := [(0, vA (some o)), (1, vI (s14.1)), (2, vI (s14.2))]) (st' := [vI (s14.2), vI (T15.a 29 (ni s14.2))]) [(.iload_n 2, 1)] ⟨dX1_settles_112, rfl⟩ rfl ?_
                            refine t_icmp_ne C 185 116 dX1_settles_113 rfl rfl (fun hc34 => ?_) (fun hc34 => ?_)
                            · replace hw := hw.2 hc34
                              refine t_b C (pc' := 188) (L' := [(2, vI (s14.2 + 1)), (0, vA (some o)), (1, vI (s14.1))]) (st' := []) [(.iinc 2 1, 3)] ⟨dX1_settles_185, rfl⟩ rfl ?_
                              refine t_goto C 49 dX1_settles_188 rfl ?_
                              refine t_sub C (L' := [(0, vA (some o)), (1, vI (s14.1)), (2, vI (s14.2 + 1))]) [1, 2, 0] rfl ?_
                              obtain ⟨m9, hm9, hw⟩ := hw
                              exact ih14 m9 hm9 (s14.1, (s14.2 + 1)) T15 hw
                            · replace hw := hw.1 hc34
                              refine t_b C (pc' := 118) (L' := [(0, vA (some o)), (1, vI (s14.1)), (2, vI (s14.2))]) (st' := [vI (s14.2), vA (some o)]) [(.aload_n 0, 1), (.iload_n 2, 1)] ⟨dX1_settles_116, dX1_settles_117, rfl⟩ rfl ?_
                              refine t_callVI C 121 [vI (s14.2)] [] dX1_settles_118 rfl (ok_X1_isKnotReady hG hw) q2817 q2819 qs143 q159 q2820 hd_X1_isKnotReady ⟨rfl, rfl, rfl⟩ (fun r36 T35 hw => ?_)
                              refine t_if_ne C 127 124 dX1_settles_121 rfl rfl (fun hc37 => ?_) (fun hc37 => ?_)
                              · replace hw := hw.2 hc37
                                refine t_b C (pc' := 128) (L' := [(0, vA (some o)), (1, vI (s14.1)), (2, vI (s14.2))]) (st' := [vA (some o)]) [(.aload_n 0, 1)] ⟨dX1_settles_127, rfl⟩ rfl ?_
                                refine t_gA C 259 29 131 dX1_settles_128 rfl rfl rfl rfl rfl q2247 (fun _ _ _ => rfl) ?_
                                refine t_b C (pc' := 132) (L' := [(0, vA (some o)), (1, vI (s14.1)), (2, vI (s14.2))]) (st' := [vI (s14.2), vA (some (o + 1 + 29))]) [(.iload_n 2, 1)] ⟨dX1_settles_131, rfl⟩ rfl ?_
                                refine t_iald C 133 dX1_settles_132 rfl hw.1 ?_
                                replace hw := hw.2
                                refine t_b C (pc' := 134) (L' := [(0, vA (some o)), (1, vI (s14.1)), (2, vI (s14.2))]) (st' := [vI (-1), vI (T35.a 29 (ni s14.2))]) [(.iconst (-1), 1)] ⟨dX1_settles_133, rfl⟩ rfl ?_
                                obtain ⟨J39, hw, hJ39⟩ := tjn.out hw
                                have kj38 : ∀ (x47 : Unit) (T48 : TS), J39 x47 T48 → K 163 [(0, vA (some o)), (2, vI (s14.2))] [] T48 := by
                                  intro x47 T48 hj
                                  replace hw := hJ39 x47 T48 hj
                                  refine t_b C (pc' := 164) (L' := [(0, vA (some o)), (2, vI (s14.2))]) (st' := [vA (some o)]) [(.aload_n 0, 1)] ⟨dX1_settles_163, rfl⟩ rfl ?_
                                  refine t_gA C 261 31 167 dX1_settles_164 rfl rfl rfl rfl rfl q2249 (fun _ _ _ => rfl) ?_
                                  refine t_b C (pc' := 168) (L' := [(0, vA (some o)), (2, vI (s14.2))]) (st' := [vA (some o), vA (some (o + 1 + 31))]) [(.aload_n 0, 1)] ⟨dX1_settles_167, rfl⟩ rfl ?_
                                  refine t_gI C 272 171 dX1_settles_168 rfl rfl rfl q2260 (fun _ _ _ => rfl) ?_
                                  refine t_b C (pc' := 172) (L' := [(0, vA (some o)), (2, vI (s14.2))]) (st' := [vI (s14.2), vI (T48.s 272), vA (some (o + 1 + 31))]) [(.iload_n 2, 1)] ⟨dX1_settles_171, rfl⟩ rfl ?_
                                  refine t_iast C 173 dX1_settles_172 rfl hw.1 (fun T49 eT49 => ?_)
                                  replace hw := hw.2 T49 eT49
                                  refine t_b C (pc' := 175) (L' := [(0, vA (some o)), (2, vI (s14.2))]) (st' := [vA (some o), vA (some o)]) [(.aload_n 0, 1), (.dup, 1)] ⟨dX1_settles_173, dX1_settles_174, rfl⟩ rfl ?_
                                  refine t_gI C 272 178 dX1_settles_175 rfl rfl rfl q2260 (fun _ _ _ => rfl) ?_
                                  refine t_b C (pc' := 180) (L' := [(0, vA (some o)), (2, vI (s14.2))]) (st' := [vI ((T49.s 272) + 1), vA (some o)]) [(.iconst 1, 1), (.iadd, 1)] ⟨dX1_settles_178, dX1_settles_179, rfl⟩ rfl ?_
                                  refine t_pI C 272 183 dX1_settles_180 rfl rfl rfl rfl q2260 (fun _ _ _ => rfl) rfl rfl (fun T50 eT50 => ?_)
                                  replace hw := hw T50 eT50
                                  refine t_b C (pc' := 188) (L' := [(2, vI (s14.2 + 1)), (1, vI 1), (0, vA (some o))]) (st' := []) [(.iconst 1, 1), (.istore_n 1, 1), (.iinc 2 1, 3)] ⟨dX1_settles_183, dX1_settles_184, dX1_settles_185, rfl⟩ rfl ?_
                                  refine t_goto C 49 dX1_settles_188 rfl ?_
                                  refine t_sub C (L' := [(0, vA (some o)), (1, vI 1), (2, vI (s14.2 + 1))]) [2, 1, 0] rfl ?_
                                  obtain ⟨m9, hm9, hw⟩ := hw
                                  exact ih14 m9 hm9 (1, (s14.2 + 1)) T50 hw
                                refine t_icmp_ne C 158 137 dX1_settles_134 rfl rfl (fun hc40 => ?_) (fun hc40 => ?_)
                                · replace hw := hw.2 hc40
                                  refine t_b C (pc' := 160) (L' := [(0, vA (some o)), (1, vI (s14.1)), (2, vI (s14.2))]) (st' := [vI (s14.2), vA (some o)]) [(.aload_n 0, 1), (.iload_n 2, 1)] ⟨dX1_settles_158, dX1_settles_159, rfl⟩ rfl ?_
                                  refine t_callVV C 163 [vI (s14.2)] [] dX1_settles_160 rfl (ok_X1_turnsKnot hG hw) q2829 q2831 qs145 q159 q2832 hd_X1_turnsKnot ⟨rfl, rfl, rfl⟩ (fun T41 hw => ?_)
                                  refine t_sub C (L' := [(0, vA (some o)), (2, vI (s14.2))]) [0, 2] rfl ?_
                                  exact kj38 () T41 hw
                                · replace hw := hw.1 hc40
                                  refine t_b C (pc' := 138) (L' := [(0, vA (some o)), (1, vI (s14.1)), (2, vI (s14.2))]) (st' := [vA (some o)]) [(.aload_n 0, 1)] ⟨dX1_settles_137, rfl⟩ rfl ?_
                                  refine t_gA C 258 28 141 dX1_settles_138 rfl rfl rfl rfl rfl q2246 (fun _ _ _ => rfl) ?_
                                  refine t_b C (pc' := 144) (L' := [(0, vA (some o)), (1, vI (s14.1)), (2, vI (s14.2))]) (st' := [vI (s14.2), vA (some o), vI (s14.2), vA (some (o + 1 + 28))]) [(.iload_n 2, 1), (.aload_n 0, 1), (.iload_n 2, 1)] ⟨dX1_settles_141, dX1_settles_142, dX1_settles_143, rfl⟩ rfl ?_
                                  refine t_callVI C 147 [vI (s14.2)] [vI (s14.2), vA (some (o + 1 + 28))] dX1_settles_144 rfl (ok_X1_worked hG hw) q2821 q2823 qs144 q159 q2824 hd_X1_worked ⟨rfl, rfl, rfl⟩ (fun r44 T43 hw => ?_)
                                  refine t_iast C 148 dX1_settles_147 rfl hw.1 (fun T45 eT45 => ?_)
                                  replace hw := hw.2 T45 eT45
                                  refine t_b C (pc' := 149) (L' := [(0, vA (some o)), (1, vI (s14.1)), (2, vI (s14.2))]) (st' := [vA (some o)]) [(.aload_n 0, 1)] ⟨dX1_settles_148, rfl⟩ rfl ?_
                                  refine t_gA C 268 38 152 dX1_settles_149 rfl rfl rfl rfl rfl q2256 (fun _ _ _ => rfl) ?_
                                  refine t_b C (pc' := 154) (L' := [(0, vA (some o)), (1, vI (s14.1)), (2, vI (s14.2))]) (st' := [vI 1, vI (s14.2), vA (some (o + 1 + 38))]) [(.iload_n 2, 1), (.iconst 1, 1)] ⟨dX1_settles_152, dX1_settles_153, rfl⟩ rfl ?_
                                  refine t_zast C 155 dX1_settles_154 rfl hw.1 (fun T46 eT46 => ?_)
                                  replace hw := hw.2 T46 eT46
                                  refine t_goto C 163 dX1_settles_155 rfl ?_
                                  refine t_sub C (L' := [(0, vA (some o)), (2, vI (s14.2))]) [0, 2] rfl ?_
                                  exact kj38 () T46 hw
                              · replace hw := hw.1 hc37
                                refine t_goto C 185 dX1_settles_124 rfl ?_
                                refine t_b C (pc' := 188) (L' := [(2, vI (s14.2 + 1)), (0, vA (some o)), (1, vI (s14.1))]) (st' := []) [(.iinc 2 1, 3)] ⟨dX1_settles_185, rfl⟩ rfl ?_
                                refine t_goto C 49 dX1_settles_188 rfl ?_
                                refine t_sub C (L' := [(0, vA (some o)), (1, vI (s14.1)), (2, vI (s14.2 + 1))]) [1, 2, 0] rfl ?_
                                obtain ⟨m9, hm9, hw⟩ := hw
                                exact ih14 m9 hm9 (s14.1, (s14.2 + 1)) T35 hw
                        · replace hw := hw.1 hc19
                          refine t_b C (pc' := 90) (L' := [(0, vA (some o)), (1, vI (s14.1)), (2, vI (s14.2))]) (st' := [vI (s14.2), vA (some o)]) [(.aload_n 0, 1), (.iload_n 2, 1)] ⟨dX1_settles_88, dX1_settles_89, rfl⟩ rfl ?_
                          refine t_callVI C 93 [vI (s14.2)] [] dX1_settles_90 rfl (ok_X1_isReady hG hw) q2813 q2815 qs142 q159 q2816 hd_X1_isReady ⟨rfl, rfl, rfl⟩ (fun r52 T51 hw => ?_)
                          refine t_if_eq C 185 96 dX1_settles_93 rfl rfl (fun hc53 => ?_) (fun hc53 => ?_)
                          · replace hw := hw.1 hc53
                            refine t_b C (pc' := 188) (L' := [(2, vI (s14.2 + 1)), (0, vA (some o)), (1, vI (s14.1))]) (st' := []) [(.iinc 2 1, 3)] ⟨dX1_settles_185, rfl⟩ rfl ?_
                            refine t_goto C 49 dX1_settles_188 rfl ?_
                            refine t_sub C (L' := [(0, vA (some o)), (1, vI (s14.1)), (2, vI (s14.2 + 1))]) [1, 2, 0] rfl ?_
                            obtain ⟨m9, hm9, hw⟩ := hw
                            exact ih14 m9 hm9 (s14.1, (s14.2 + 1)) T51 hw
                          · replace hw := hw.2 hc53
                            refine t_b C (pc' := 97) (L' := [(0, vA (some o)), (1, vI (s14.1)), (2, vI (s14.2))]) (st' := [vA (some o)]) [(.aload_n 0, 1)] ⟨dX1_settles_96, rfl⟩ rfl ?_
                            refine t_gA C 259 29 100 dX1_settles_97 rfl rfl rfl rfl rfl q2247 (fun _ _ _ => rfl) ?_
                            refine t_b C (pc' := 101) (L' := [(0, vA (some o)), (1, vI (s14.1)), (2, vI (s14.2))]) (st' := [vI (s14.2), vA (some (o + 1 + 29))]) [(.iload_n 2, 1)] ⟨dX1_settles_100, rfl⟩ rfl ?_
                            refine t_iald C 102 dX1_settles_101 rfl hw.1 ?_
                            replace hw := hw.2
                            refine t_b C (pc' := 103) (L' := [(0, vA (some o)), (1, vI (s14.1)), (2, vI (s14.2))]) (st' := [vI (-1), vI (T51.a 29 (ni s14.2))]) [(.iconst (-1), 1)] ⟨dX1_settles_102, rfl⟩ rfl ?_
                            refine t_icmp_eq C 127 106 dX1_settles_103 rfl rfl (fun hc54 => ?_) (fun hc54 => ?_)
                            · replace hw := hw.1 hc54
                              refine t_b C (pc' := 128) (L' := [(0, vA (some o)), (1, vI (s14.1)), (2, vI (s14.2))]) (st' := [vA (some o)]) [(.aload_n 0, 1)] ⟨dX1_settles_127, rfl⟩ rfl ?_
                              refine t_gA C 259 29 131 dX1_settles_128 rfl rfl rfl rfl rfl q2247 (fun _ _ _ => rfl) ?_
                              refine t_b C (pc' := 132) (L' := [(0, vA (some o)), (1, vI (s14.1)), (2, vI (s14.2))]) (st' := [vI (s14.2), vA (some (o + 1 + 29))]) [(.iload_n 2, 1)] ⟨dX1_settles_131, rfl⟩ rfl ?_
                              refine t_iald C 133 dX1_settles_132 rfl hw.1 ?_
                              replace hw := hw.2
                              refine t_b C (pc' := 134) (L' := [(0, vA (some o)), (1, vI (s14.1)), (2, vI (s14.2))]) (st' := [vI (-1), vI (T51.a 29 (ni s14.2))]) [(.iconst (-1), 1)] ⟨dX1_settles_133, rfl⟩ rfl ?_
                              obtain ⟨J56, hw, hJ56⟩ := tjn.out hw
                              have kj55 : ∀ (x64 : Unit) (T65 : TS), J56 x64 T65 → K 163 [(0, vA (some o)), (2, vI (s14.2))] [] T65 := by
                                intro x64 T65 hj
                                replace hw := hJ56 x64 T65 hj
                                refine t_b C (pc' := 164) (L' := [(0, vA (some o)), (2, vI (s14.2))]) (st' := [vA (some o)]) [(.aload_n 0, 1)] ⟨dX1_settles_163, rfl⟩ rfl ?_
                                refine t_gA C 261 31 167 dX1_settles_164 rfl rfl rfl rfl rfl q2249 (fun _ _ _ => rfl) ?_
                                refine t_b C (pc' := 168) (L' := [(0, vA (some o)), (2, vI (s14.2))]) (st' := [vA (some o), vA (some (o + 1 + 31))]) [(.aload_n 0, 1)] ⟨dX1_settles_167, rfl⟩ rfl ?_
                                refine t_gI C 272 171 dX1_settles_168 rfl rfl rfl q2260 (fun _ _ _ => rfl) ?_
                                refine t_b C (pc' := 172) (L' := [(0, vA (some o)), (2, vI (s14.2))]) (st' := [vI (s14.2), vI (T65.s 272), vA (some (o + 1 + 31))]) [(.iload_n 2, 1)] ⟨dX1_settles_171, rfl⟩ rfl ?_
                                refine t_iast C 173 dX1_settles_172 rfl hw.1 (fun T66 eT66 => ?_)
                                replace hw := hw.2 T66 eT66
                                refine t_b C (pc' := 175) (L' := [(0, vA (some o)), (2, vI (s14.2))]) (st' := [vA (some o), vA (some o)]) [(.aload_n 0, 1), (.dup, 1)] ⟨dX1_settles_173, dX1_settles_174, rfl⟩ rfl ?_
                                refine t_gI C 272 178 dX1_settles_175 rfl rfl rfl q2260 (fun _ _ _ => rfl) ?_
                                refine t_b C (pc' := 180) (L' := [(0, vA (some o)), (2, vI (s14.2))]) (st' := [vI ((T66.s 272) + 1), vA (some o)]) [(.iconst 1, 1), (.iadd, 1)] ⟨dX1_settles_178, dX1_settles_179, rfl⟩ rfl ?_
                                refine t_pI C 272 183 dX1_settles_180 rfl rfl rfl rfl q2260 (fun _ _ _ => rfl) rfl rfl (fun T67 eT67 => ?_)
                                replace hw := hw T67 eT67
                                refine t_b C (pc' := 188) (L' := [(2, vI (s14.2 + 1)), (1, vI 1), (0, vA (some o))]) (st' := []) [(.iconst 1, 1), (.istore_n 1, 1), (.iinc 2 1, 3)] ⟨dX1_settles_183, dX1_settles_184, dX1_settles_185, rfl⟩ rfl ?_
                                refine t_goto C 49 dX1_settles_188 rfl ?_
                                refine t_sub C (L' := [(0, vA (some o)), (1, vI 1), (2, vI (s14.2 + 1))]) [2, 1, 0] rfl ?_
                                obtain ⟨m9, hm9, hw⟩ := hw
                                exact ih14 m9 hm9 (1, (s14.2 + 1)) T67 hw
                              refine t_icmp_ne C 158 137 dX1_settles_134 rfl rfl (fun hc57 => ?_) (fun hc57 => ?_)
                              · replace hw := hw.2 hc57
                                refine t_b C (pc' := 160) (L' := [(0, vA (some o)), (1, vI (s14.1)), (2, vI (s14.2))]) (st' := [vI (s14.2), vA (some o)]) [(.aload_n 0, 1), (.iload_n 2, 1)] ⟨dX1_settles_158, dX1_settles_159, rfl⟩ rfl ?_
                                refine t_callVV C 163 [vI (s14.2)] [] dX1_settles_160 rfl (ok_X1_turnsKnot hG hw) q2829 q2831 qs145 q159 q2832 hd_X1_turnsKnot ⟨rfl, rfl, rfl⟩ (fun T58 hw => ?_)
                                refine t_sub C (L' := [(0, vA (some o)), (2, vI (s14.2))]) [0, 2] rfl ?_
                                exact kj55 () T58 hw
                              · replace hw := hw.1 hc57
                                refine t_b C (pc' := 138) (L' := [(0, vA (some o)), (1, vI (s14.1)), (2, vI (s14.2))]) (st' := [vA (some o)]) [(.aload_n 0, 1)] ⟨dX1_settles_137, rfl⟩ rfl ?_
                                refine t_gA C 258 28 141 dX1_settles_138 rfl rfl rfl rfl rfl q2246 (fun _ _ _ => rfl) ?_
                                refine t_b C (pc' := 144) (L' := [(0, vA (some o)), (1, vI (s14.1)), (2, vI (s14.2))]) (st' := [vI (s14.2), vA (some o), vI (s14.2), vA (some (o + 1 + 28))]) [(.iload_n 2, 1), (.aload_n 0, 1), (.iload_n 2, 1)] ⟨dX1_settles_141, dX1_settles_142, dX1_settles_143, rfl⟩ rfl ?_
                                refine t_callVI C 147 [vI (s14.2)] [vI (s14.2), vA (some (o + 1 + 28))] dX1_settles_144 rfl (ok_X1_worked hG hw) q2821 q2823 qs144 q159 q2824 hd_X1_worked ⟨rfl, rfl, rfl⟩ (fun r61 T60 hw => ?_)
                                refine t_iast C 148 dX1_settles_147 rfl hw.1 (fun T62 eT62 => ?_)
                                replace hw := hw.2 T62 eT62
                                refine t_b C (pc' := 149) (L' := [(0, vA (some o)), (1, vI (s14.1)), (2, vI (s14.2))]) (st' := [vA (some o)]) [(.aload_n 0, 1)] ⟨dX1_settles_148, rfl⟩ rfl ?_
                                refine t_gA C 268 38 152 dX1_settles_149 rfl rfl rfl rfl rfl q2256 (fun _ _ _ => rfl) ?_
                                refine t_b C (pc' := 154) (L' := [(0, vA (some o)), (1, vI (s14.1)), (2, vI (s14.2))]) (st' := [vI 1, vI (s14.2), vA (some (o + 1 + 38))]) [(.iload_n 2, 1), (.iconst 1, 1)] ⟨dX1_settles_152, dX1_settles_153, rfl⟩ rfl ?_
                                refine t_zast C 155 dX1_settles_154 rfl hw.1 (fun T63 eT63 => ?_)
                                replace hw := hw.2 T63 eT63
                                refine t_goto C 163 dX1_settles_155 rfl ?_
                                refine t_sub C (L' := [(0, vA (some o)), (2, vI (s14.2))]) [0, 2] rfl ?_
                                exact kj55 () T63 hw
                            · replace hw := hw.2 hc54
                              refine t_b C (pc' := 107) (L' := [(0, vA (some o)), (1, vI (s14.1)), (2, vI (s14.2))]) (st' := [vA (some o)]) [(.aload_n 0, 1)] ⟨dX1_settles_106, rfl⟩ rfl ?_
                              refine t_gA C 259 29 110 dX1_settles_107 rfl rfl rfl rfl rfl q2247 (fun _ _ _ => rfl) ?_
                              refine t_b C (pc' := 111) (L' := [(0, vA (some o)), (1, vI (s14.1)), (2, vI (s14.2))]) (st' := [vI (s14.2), vA (some (o + 1 + 29))]) [(.iload_n 2, 1)] ⟨dX1_settles_110, rfl⟩ rfl ?_
                              refine t_iald C 112 dX1_settles_111 rfl hw.1 ?_
                              replace hw := hw.2
                              refine t_b C (pc' := 113) (L' := [(0, vA (some o)), (1, vI (s14.1)), (2, vI (s14.2))]) (st' := [vI (s14.2), vI (T51.a 29 (ni s14.2))]) [(.iload_n 2, 1)] ⟨dX1_settles_112, rfl⟩ rfl ?_
                              refine t_icmp_ne C 185 116 dX1_settles_113 rfl rfl (fun hc68 => ?_) (fun hc68 => ?_)
                              · replace hw := hw.2 hc68
                                refine t_b C (pc' := 188) (L' := [(2, vI (s14.2 + 1)), (0, vA (some o)), (1, vI (s14.1))]) (st' := []) [(.iinc 2 1, 3)] ⟨dX1_settles_185, rfl⟩ rfl ?_
                                refine t_goto C 49 dX1_settles_188 rfl ?_
                                refine t_sub C (L' := [(0, vA (some o)), (1, vI (s14.1)), (2, vI (s14.2 + 1))]) [1, 2, 0] rfl ?_
                                obtain ⟨m9, hm9, hw⟩ := hw
                                exact ih14 m9 hm9 (s14.1, (s14.2 + 1)) T51 hw
                              · replace hw := hw.1 hc68
                                refine t_b C (pc' := 118) (L' := [(0, vA (some o)), (1, vI (s14.1)), (2, vI (s14.2))]) (st' := [vI (s14.2), vA (some o)]) [(.aload_n 0, 1), (.iload_n 2, 1)] ⟨dX1_settles_116, dX1_settles_117, rfl⟩ rfl ?_
                                refine t_callVI C 121 [vI (s14.2)] [] dX1_settles_118 rfl (ok_X1_isKnotReady hG hw) q2817 q2819 qs143 q159 q2820 hd_X1_isKnotReady ⟨rfl, rfl, rfl⟩ (fun r70 T69 hw => ?_)
                                refine t_if_ne C 127 124 dX1_settles_121 rfl rfl (fun hc71 => ?_) (fun hc71 => ?_)
                                · replace hw := hw.2 hc71
                                  refine t_b C (pc' := 128) (L' := [(0, vA (some o)), (1, vI (s14.1)), (2, vI (s14.2))]) (st' := [vA (some o)]) [(.aload_n 0, 1)] ⟨dX1_settles_127, rfl⟩ rfl ?_
                                  refine t_gA C 259 29 131 dX1_settles_128 rfl rfl rfl rfl rfl q2247 (fun _ _ _ => rfl) ?_
                                  refine t_b C (pc' := 132) (L' := [(0, vA (some o)), (1, vI (s14.1)), (2, vI (s14.2))]) (st' := [vI (s14.2), vA (some (o + 1 + 29))]) [(.iload_n 2, 1)] ⟨dX1_settles_131, rfl⟩ rfl ?_
                                  refine t_iald C 133 dX1_settles_132 rfl hw.1 ?_
                                  replace hw := hw.2
                                  refine t_b C (pc' := 134) (L' := [(0, vA (some o)), (1, vI (s14.1)), (2, vI (s14.2))]) (st' := [vI (-1), vI (T69.a 29 (ni s14.2))]) [(.iconst (-1), 1)] ⟨dX1_settles_133, rfl⟩ rfl ?_
                                  obtain ⟨J73, hw, hJ73⟩ := tjn.out hw
                                  have kj72 : ∀ (x81 : Unit) (T82 : TS), J73 x81 T82 → K 163 [(0, vA (some o)), (2, vI (s14.2))] [] T82 := by
                                    intro x81 T82 hj
                                    replace hw := hJ73 x81 T82 hj
                                    refine t_b C (pc' := 164) (L' := [(0, vA (some o)), (2, vI (s14.2))]) (st' := [vA (some o)]) [(.aload_n 0, 1)] ⟨dX1_settles_163, rfl⟩ rfl ?_
                                    refine t_gA C 261 31 167 dX1_settles_164 rfl rfl rfl rfl rfl q2249 (fun _ _ _ => rfl) ?_
                                    refine t_b C (pc' := 168) (L' := [(0, vA (some o)), (2, vI (s14.2))]) (st' := [vA (some o), vA (some (o + 1 + 31))]) [(.aload_n 0, 1)] ⟨dX1_settles_167, rfl⟩ rfl ?_
                                    refine t_gI C 272 171 dX1_settles_168 rfl rfl rfl q2260 (fun _ _ _ => rfl) ?_
                                    refine t_b C (pc' := 172) (L' := [(0, vA (some o)), (2, vI (s14.2))]) (st' := [vI (s14.2), vI (T82.s 272), vA (some (o + 1 + 31))]) [(.iload_n 2, 1)] ⟨dX1_settles_171, rfl⟩ rfl ?_
                                    refine t_iast C 173 dX1_settles_172 rfl hw.1 (fun T83 eT83 => ?_)
                                    replace hw := hw.2 T83 eT83
                                    refine t_b C (pc' := 175) (L' := [(0, vA (some o)), (2, vI (s14.2))]) (st' := [vA (some o), vA (some o)]) [(.aload_n 0, 1), (.dup, 1)] ⟨dX1_settles_173, dX1_settles_174, rfl⟩ rfl ?_
                                    refine t_gI C 272 178 dX1_settles_175 rfl rfl rfl q2260 (fun _ _ _ => rfl) ?_
                                    refine t_b C (pc' := 180) (L' := [(0, vA (some o)), (2, vI (s14.2))]) (st' := [vI ((T83.s 272) + 1), vA (some o)]) [(.iconst 1, 1), (.iadd, 1)] ⟨dX1_settles_178, dX1_settles_179, rfl⟩ rfl ?_
                                    refine t_pI C 272 183 dX1_settles_180 rfl rfl rfl rfl q2260 (fun _ _ _ => rfl) rfl rfl (fun T84 eT84 => ?_)
                                    replace hw := hw T84 eT84
                                    refine t_b C (pc' := 188) (L' := [(2, vI (s14.2 + 1)), (1, vI 1), (0, vA (some o))]) (st' := []) [(.iconst 1, 1), (.istore_n 1, 1), (.iinc 2 1, 3)] ⟨dX1_settles_183, dX1_settles_184, dX1_settles_185, rfl⟩ rfl ?_
                                    refine t_goto C 49 dX1_settles_188 rfl ?_
                                    refine t_sub C (L' := [(0, vA (some o)), (1, vI 1), (2, vI (s14.2 + 1))]) [2, 1, 0] rfl ?_
                                    obtain ⟨m9, hm9, hw⟩ := hw
                                    exact ih14 m9 hm9 (1, (s14.2 + 1)) T84 hw
                                  refine t_icmp_ne C 158 137 dX1_settles_134 rfl rfl (fun hc74 => ?_) (fun hc74 => ?_)
                                  · replace hw := hw.2 hc74
                                    refine t_b C (pc' := 160) (L' := [(0, vA (some o)), (1, vI (s14.1)), (2, vI (s14.2))]) (st' := [vI (s14.2), vA (some o)]) [(.aload_n 0, 1), (.iload_n 2, 1)] ⟨dX1_settles_158, dX1_settles_159, rfl⟩ rfl ?_
                                    refine t_callVV C 163 [vI (s14.2)] [] dX1_settles_160 rfl (ok_X1_turnsKnot hG hw) q2829 q2831 qs145 q159 q2832 hd_X1_turnsKnot ⟨rfl, rfl, rfl⟩ (fun T75 hw => ?_)
                                    refine t_sub C (L' := [(0, vA (some o)), (2, vI (s14.2))]) [0, 2] rfl ?_
                                    exact kj72 () T75 hw
                                  · replace hw := hw.1 hc74
                                    refine t_b C (pc' := 138) (L' := [(0, vA (some o)), (1, vI (s14.1)), (2, vI (s14.2))]) (st' := [vA (some o)]) [(.aload_n 0, 1)] ⟨dX1_settles_137, rfl⟩ rfl ?_
                                    refine t_gA C 258 28 141 dX1_settles_138 rfl rfl rfl rfl rfl q2246 (fun _ _ _ => rfl) ?_
                                    refine t_b C (pc' := 144) (L' := [(0, vA (some o)), (1, vI (s14.1)), (2, vI (s14.2))]) (st' := [vI (s14.2), vA (some o), vI (s14.2), vA (some (o + 1 + 28))]) [(.iload_n 2, 1), (.aload_n 0, 1), (.iload_n 2, 1)] ⟨dX1_settles_141, dX1_settles_142, dX1_settles_143, rfl⟩ rfl ?_
                                    refine t_callVI C 147 [vI (s14.2)] [vI (s14.2), vA (some (o + 1 + 28))] dX1_settles_144 rfl (ok_X1_worked hG hw) q2821 q2823 qs144 q159 q2824 hd_X1_worked ⟨rfl, rfl, rfl⟩ (fun r78 T77 hw => ?_)
                                    refine t_iast C 148 dX1_settles_147 rfl hw.1 (fun T79 eT79 => ?_)
                                    replace hw := hw.2 T79 eT79
                                    refine t_b C (pc' := 149) (L' := [(0, vA (some o)), (1, vI (s14.1)), (2, vI (s14.2))]) (st' := [vA (some o)]) [(.aload_n 0, 1)] ⟨dX1_settles_148, rfl⟩ rfl ?_
                                    refine t_gA C 268 38 152 dX1_settles_149 rfl rfl rfl rfl rfl q2256 (fun _ _ _ => rfl) ?_
                                    refine t_b C (pc' := 154) (L' := [(0, vA (some o)), (1, vI (s14.1)), (2, vI (s14.2))]) (st' := [vI 1, vI (s14.2), vA (some (o + 1 + 38))]) [(.iload_n 2, 1), (.iconst 1, 1)] ⟨dX1_settles_152, dX1_settles_153, rfl⟩ rfl ?_
                                    refine t_zast C 155 dX1_settles_154 rfl hw.1 (fun T80 eT80 => ?_)
                                    replace hw := hw.2 T80 eT80
                                    refine t_goto C 163 dX1_settles_155 rfl ?_
                                    refine t_sub C (L' := [(0, vA (some o)), (2, vI (s14.2))]) [0, 2] rfl ?_
                                    exact kj72 () T80 hw
                                · replace hw := hw.1 hc71
                                  refine t_goto C 185 dX1_settles_124 rfl ?_
                                  refine t_b C (pc' := 188) (L' := [(2, vI (s14.2 + 1)), (0, vA (some o)), (1, vI (s14.1))]) (st' := []) [(.iinc 2 1, 3)] ⟨dX1_settles_185, rfl⟩ rfl ?_
                                  refine t_goto C 49 dX1_settles_188 rfl ?_
                                  refine t_sub C (L' := [(0, vA (some o)), (1, vI (s14.1)), (2, vI (s14.2 + 1))]) [1, 2, 0] rfl ?_
                                  obtain ⟨m9, hm9, hw⟩ := hw
                                  exact ih14 m9 hm9 (s14.1, (s14.2 + 1)) T69 hw
              exact key14 n14 (0, 0) T12 hI14
        exact key11 n11 1 T10 hI11
      · replace hw := hw.2 hc9
        refine t_b C (pc' := 22) (L' := [(0, vA (some o)), (1, vI s7)]) (st' := [vA (some o)]) [(.aload_n 0, 1)] ⟨dX1_settles_21, rfl⟩ rfl ?_
        refine t_gA C 268 38 25 dX1_settles_22 rfl rfl rfl rfl rfl q2256 (fun _ _ _ => rfl) ?_
        refine t_b C (pc' := 27) (L' := [(0, vA (some o)), (1, vI s7)]) (st' := [vI 0, vI s7, vA (some (o + 1 + 38))]) [(.iload_n 1, 1), (.iconst 0, 1)] ⟨dX1_settles_25, dX1_settles_26, rfl⟩ rfl ?_
        refine t_zast C 28 dX1_settles_27 rfl hw.1 (fun T85 eT85 => ?_)
        replace hw := hw.2 T85 eT85
        refine t_b C (pc' := 31) (L' := [(1, vI (s7 + 1)), (0, vA (some o))]) (st' := []) [(.iinc 1 1, 3)] ⟨dX1_settles_28, rfl⟩ rfl ?_
        refine t_goto C 14 dX1_settles_31 rfl ?_
        refine t_sub C (L' := [(0, vA (some o)), (1, vI (s7 + 1))]) [1, 0] rfl ?_
        obtain ⟨m9, hm9, hw⟩ := hw
        exact ih7 m9 hm9 (s7 + 1) T85 hw
  exact key7 n7 0 T5 hI7
def wp_X1_counts  (T : TS) (Q : TS → Prop) : Prop :=
  wp_X1_settles  T fun T1 =>
  ∀ T3, T3 = T1.ss 253 1 →
  ∀ T4, T4 = T3.ss 254 0 →
  ∀ T5, T5 = T4.ss 255 0 →
  tlp (σ := Int32) (fun s6 T7 k6 =>
  (((T7.s 272) ≤ s6 →
  Q T7) ∧ (¬ (T7.s 272) ≤ s6 →
  tix 31 40 s6 ∧
  tlp (σ := Int32 × Int32) (fun s9 T10 k9 =>
  (((8 * (T10.s 250)) ≤ s9.2 →
  tlp (σ := Int32) (fun s12 T13 k12 =>
  (((((8 * (T13.s 250)) ≤ s12) ∨ (s9.1 = 0)) →
  k6 (s6 + 1) T13) ∧ (¬ (((8 * (T13.s 250)) ≤ s12) ∨ (s9.1 = 0)) →
  wp_X1_isOf s12 (T7.a 31 (ni s6)) T13 fun r17 T16 =>
  ((r17 = 0 →
  k12 (s12 + 1) T16) ∧ (¬ r17 = 0 →
  ∀ T19, T19 = T16.ss 254 ((T16.s 254) + 1) →
  tix 40 42 s12 ∧
  tjn (α := Int32) (fun J21 =>
  (((T19.a 40 (ni s12)) = 0 →
  tix 28 40 s12 ∧
  tix 32 40 s12 ∧
  ∀ m23 : Int32, m23 = (if (T19.a 28 (ni s12)) = (T19.a 32 (ni s12)) then 0 else 1) →
  J21 m23 T19) ∧ (¬ (T19.a 40 (ni s12)) = 0 →
  J21 1 T19))) (fun x26 T27 =>
  tix 41 42 s12 ∧
  ∀ T28, T28 = T27.sa 41 (ni s12) (vp_nar .boolean x26) →
  tix 41 42 s12 ∧
  ∀ m29 : Int32, m29 = (if (T28.a 41 (ni s12)) = 0 then 0 else 1) →
  ∀ T31, T31 = T28.ss 255 ((T28.s 255) + m29) →
  k12 (s12 + 1) T31)))))) 0 T10) ∧ (¬ (8 * (T10.s 250)) ≤ s9.2 →
  ((s9.1 = 0 →
  wp_X1_isOf (s9.2) (T7.a 31 (ni s6)) T10 fun r37 T36 =>
  ((r37 = 0 →
  k9 (0, (s9.2 + 1)) T36) ∧ (¬ r37 = 0 →
  wp_X1_isTouched (s9.2) T36 fun r40 T39 =>
  ∀ m41 : Int32, m41 = (if r40 = 0 then 0 else 1) →
  k9 (m41, (s9.2 + 1)) T39))) ∧ (¬ s9.1 = 0 →
  k9 (1, (s9.2 + 1)) T10))))) (0, 0) T7))) 0 T5
theorem hd_X1_counts : yX1_counts.cls = RX1 ∧ yX1_counts.cls ≠ "java/lang/invoke/MethodHandle" ∧ yX1_counts.cls ≠ "java/lang/invoke/VarHandle" ∧ (parseMethodDescriptor yX1_counts.desc).map (fun d => d.parameters.length) = some 0 := by decide +kernel
theorem ok_X1_counts {l : Launch} {D : va_G} {s0 : S0} (hG : G0 D s0) {o : Nat}  {T : TS} {Q : TS → Prop} (hw : wp_X1_counts  T Q) : OKt l D s0 o yX1_counts cX1_counts 5 none 5 119 [vA (some o)] T (TV Q) := by
  refine t_met hG rfl rfl (L0 := [(0, vA (some o))]) rfl rfl ?_
  intro h K C
  unfold wp_X1_counts at hw
  refine t_b C (pc' := 1) (L' := [(0, vA (some o))]) (st' := [vA (some o)]) [(.aload_n 0, 1)] ⟨dX1_counts_0, rfl⟩ rfl ?_
  refine t_callVV C 4 [] [] dX1_counts_1 rfl (ok_X1_settles hG hw) q2766 q2768 qs131 q159 q2769 hd_X1_settles ⟨rfl, rfl, rfl⟩ (fun T1 hw => ?_)
  refine t_b C (pc' := 6) (L' := [(0, vA (some o))]) (st' := [vI 1, vA (some o)]) [(.aload_n 0, 1), (.iconst 1, 1)] ⟨dX1_counts_4, dX1_counts_5, rfl⟩ rfl ?_
  refine t_pI C 253 9 dX1_counts_6 rfl rfl rfl rfl q2241 (fun _ _ _ => rfl) rfl rfl (fun T3 eT3 => ?_)
  replace hw := hw T3 eT3
  refine t_b C (pc' := 11) (L' := [(0, vA (some o))]) (st' := [vI 0, vA (some o)]) [(.aload_n 0, 1), (.iconst 0, 1)] ⟨dX1_counts_9, dX1_counts_10, rfl⟩ rfl ?_
  refine t_pI C 254 14 dX1_counts_11 rfl rfl rfl rfl q2242 (fun _ _ _ => rfl) rfl rfl (fun T4 eT4 => ?_)
  replace hw := hw T4 eT4
  refine t_b C (pc' := 16) (L' := [(0, vA (some o))]) (st' := [vI 0, vA (some o)]) [(.aload_n 0, 1), (.iconst 0, 1)] ⟨dX1_counts_14, dX1_counts_15, rfl⟩ rfl ?_
  refine t_pI C 255 19 dX1_counts_16 rfl rfl rfl rfl q2243 (fun _ _ _ => rfl) rfl rfl (fun T5 eT5 => ?_)
  replace hw := hw T5 eT5
  refine t_b C (pc' := 21) (L' := [(1, vI 0), (0, vA (some o))]) (st' := []) [(.iconst 0, 1), (.istore_n 1, 1)] ⟨dX1_counts_19, dX1_counts_20, rfl⟩ rfl ?_
  obtain ⟨I6, ⟨n6, hI6⟩, hB6⟩ := tlp.out hw
  refine t_sub C (L' := [(0, vA (some o)), (1, vI 0)]) [1, 0] rfl ?_
  have key6 : ∀ (n : Nat) (s6 : Int32) (T7 : TS), I6 n s6 T7 → K 21 [(0, vA (some o)), (1, vI s6)] [] T7 := by
    intro n
    induction n using Nat.strongRecOn with
    | ind n ih6 =>
      intro s6 T7 hI
      replace hw := hB6 n s6 T7 hI
      refine t_b C (pc' := 23) (L' := [(0, vA (some o)), (1, vI s6)]) (st' := [vA (some o), vI s6]) [(.iload_n 1, 1), (.aload_n 0, 1)] ⟨dX1_counts_21, dX1_counts_22, rfl⟩ rfl ?_
      refine t_gI C 272 26 dX1_counts_23 rfl rfl rfl q2260 (fun _ _ _ => rfl) ?_
      refine t_icmp_ge C 205 29 dX1_counts_26 rfl rfl (fun hc8 => ?_) (fun hc8 => ?_)
      · replace hw := hw.1 hc8
        exact t_vret C dX1_counts_205 ⟨rfl, hw⟩
      · replace hw := hw.2 hc8
        refine t_b C (pc' := 30) (L' := [(0, vA (some o)), (1, vI s6)]) (st' := [vA (some o)]) [(.aload_n 0, 1)] ⟨dX1_counts_29, rfl⟩ rfl ?_
        refine t_gA C 261 31 33 dX1_counts_30 rfl rfl rfl rfl rfl q2249 (fun _ _ _ => rfl) ?_
        refine t_b C (pc' := 34) (L' := [(0, vA (some o)), (1, vI s6)]) (st' := [vI s6, vA (some (o + 1 + 31))]) [(.iload_n 1, 1)] ⟨dX1_counts_33, rfl⟩ rfl ?_
        refine t_iald C 35 dX1_counts_34 rfl hw.1 ?_
        replace hw := hw.2
        refine t_b C (pc' := 41) (L' := [(4, vI 0), (3, vI 0), (2, vI (T7.a 31 (ni s6))), (0, vA (some o)), (1, vI s6)]) (st' := []) [(.istore_n 2, 1), (.iconst 0, 1), (.istore_n 3, 1), (.iconst 0, 1), (.istore 4, 2)] ⟨dX1_counts_35, dX1_counts_36, dX1_counts_37, dX1_counts_38, dX1_counts_39, rfl⟩ rfl ?_
        obtain ⟨I9, ⟨n9, hI9⟩, hB9⟩ := tlp.out hw
        refine t_sub C (L' := [(0, vA (some o)), (1, vI s6), (2, vI (T7.a 31 (ni s6))), (3, vI 0), (4, vI 0)]) [3, 4, 2, 1, 0] rfl ?_
        have key9 : ∀ (n : Nat) (s9 : Int32 × Int32) (T10 : TS), I9 n s9 T10 → K 41 [(0, vA (some o)), (1, vI s6), (2, vI (T7.a 31 (ni s6))), (3, vI (s9.1)), (4, vI (s9.2))] [] T10 := by
          intro n
          induction n using Nat.strongRecOn with
          | ind n ih9 =>
            intro s9 T10 hI
            replace hw := hB9 n s9 T10 hI
            refine t_b C (pc' := 46) (L' := [(0, vA (some o)), (1, vI s6), (2, vI (T7.a 31 (ni s6))), (3, vI (s9.1)), (4, vI (s9.2))]) (st' := [vA (some o), vI 8, vI (s9.2)]) [(.iload 4, 2), (.bipush 8, 2), (.aload_n 0, 1)] ⟨dX1_counts_41, dX1_counts_43, dX1_counts_45, rfl⟩ rfl ?_
            refine t_gI C 250 49 dX1_counts_46 rfl rfl rfl q2238 (fun _ _ _ => rfl) ?_
            refine t_b C (pc' := 50) (L' := [(0, vA (some o)), (1, vI s6), (2, vI (T7.a 31 (ni s6))), (3, vI (s9.1)), (4, vI (s9.2))]) (st' := [vI (8 * (T10.s 250)), vI (s9.2)]) [(.imul, 1)] ⟨dX1_counts_49, rfl⟩ rfl ?_
            refine t_icmp_ge C 88 53 dX1_counts_50 rfl rfl (fun hc11 => ?_) (fun hc11 => ?_)
            · replace hw := hw.1 hc11
              refine t_b C (pc' := 91) (L' := [(4, vI 0), (0, vA (some o)), (1, vI s6), (2, vI (T7.a 31 (ni s6))), (3, vI (s9.1))]) (st' := []) [(.iconst 0, 1), (.istore 4, 2)] ⟨dX1_counts_88, dX1_counts_89, rfl⟩ rfl ?_
              obtain ⟨I12, ⟨n12, hI12⟩, hB12⟩ := tlp.out hw
              refine t_sub C (L' := [(0, vA (some o)), (1, vI s6), (2, vI (T7.a 31 (ni s6))), (3, vI (s9.1)), (4, vI 0)]) [1, 2, 3, 4, 0] rfl ?_
              have key12 : ∀ (n : Nat) (s12 : Int32) (T13 : TS), I12 n s12 T13 → K 91 [(0, vA (some o)), (1, vI s6), (2, vI (T7.a 31 (ni s6))), (3, vI (s9.1)), (4, vI s12)] [] T13 := by
                intro n
                induction n using Nat.strongRecOn with
                | ind n ih12 =>
                  intro s12 T13 hI
                  replace hw := hB12 n s12 T13 hI
                  refine t_b C (pc' := 96) (L' := [(0, vA (some o)), (1, vI s6), (2, vI (T7.a 31 (ni s6))), (3, vI (s9.1)), (4, vI s12)]) (st' := [vA (some o), vI 8, vI s12]) [(.iload 4, 2), (.bipush 8, 2), (.aload_n 0, 1)] ⟨dX1_counts_91, dX1_counts_93, dX1_counts_95, rfl⟩ rfl ?_
                  refine t_gI C 250 99 dX1_counts_96 rfl rfl rfl q2238 (fun _ _ _ => rfl) ?_
                  refine t_b C (pc' := 100) (L' := [(0, vA (some o)), (1, vI s6), (2, vI (T7.a 31 (ni s6))), (3, vI (s9.1)), (4, vI s12)]) (st' := [vI (8 * (T13.s 250)), vI s12]) [(.imul, 1)] ⟨dX1_counts_99, rfl⟩ rfl ?_
                  have kx14 : (((8 * (T13.s 250)) ≤ s12) ∨ (s9.1 = 0)) → K 199 [(0, vA (some o)), (1, vI s6), (2, vI (T7.a 31 (ni s6))), (3, vI (s9.1)), (4, vI s12)] [] T13 := by
                    intro hcc
                    replace hw := hw.1 hcc
                    refine t_b C (pc' := 202) (L' := [(1, vI (s6 + 1)), (0, vA (some o)), (2, vI (T7.a 31 (ni s6))), (3, vI (s9.1)), (4, vI s12)]) (st' := []) [(.iinc 1 1, 3)] ⟨dX1_counts_199, rfl⟩ rfl ?_
                    refine t_goto C 21 dX1_counts_202 rfl ?_
                    refine t_sub C (L' := [(0, vA (some o)), (1, vI (s6 + 1))]) [1, 0] rfl ?_
                    obtain ⟨m9, hm9, hw⟩ := hw
                    exact ih6 m9 hm9 (s6 + 1) T13 hw
                  have ky15 : ¬ (((8 * (T13.s 250)) ≤ s12) ∨ (s9.1 = 0)) → K 111 [(0, vA (some o)), (1, vI s6), (2, vI (T7.a 31 (ni s6))), (3, vI (s9.1)), (4, vI s12)] [vI (T7.a 31 (ni s6)), vI s12, vA (some o)] T13 := by
                    intro hcc
                    replace hw := hw.2 hcc
                    refine t_callVI C 114 [vI s12, vI (T7.a 31 (ni s6))] [] dX1_counts_111 rfl (ok_X1_isOf hG hw) q2885 q2887 qs152 q159 q2888 hd_X1_isOf ⟨rfl, rfl, rfl⟩ (fun r17 T16 hw => ?_)
                    refine t_if_ne C 120 117 dX1_counts_114 rfl rfl (fun hc18 => ?_) (fun hc18 => ?_)
                    · replace hw := hw.2 hc18
                      refine t_b C (pc' := 122) (L' := [(0, vA (some o)), (1, vI s6), (2, vI (T7.a 31 (ni s6))), (3, vI (s9.1)), (4, vI s12)]) (st' := [vA (some o), vA (some o)]) [(.aload_n 0, 1), (.dup, 1)] ⟨dX1_counts_120, dX1_counts_121, rfl⟩ rfl ?_
                      refine t_gI C 254 125 dX1_counts_122 rfl rfl rfl q2242 (fun _ _ _ => rfl) ?_
                      refine t_b C (pc' := 127) (L' := [(0, vA (some o)), (1, vI s6), (2, vI (T7.a 31 (ni s6))), (3, vI (s9.1)), (4, vI s12)]) (st' := [vI ((T16.s 254) + 1), vA (some o)]) [(.iconst 1, 1), (.iadd, 1)] ⟨dX1_counts_125, dX1_counts_126, rfl⟩ rfl ?_
                      refine t_pI C 254 130 dX1_counts_127 rfl rfl rfl rfl q2242 (fun _ _ _ => rfl) rfl rfl (fun T19 eT19 => ?_)
                      replace hw := hw T19 eT19
                      refine t_b C (pc' := 131) (L' := [(0, vA (some o)), (1, vI s6), (2, vI (T7.a 31 (ni s6))), (3, vI (s9.1)), (4, vI s12)]) (st' := [vA (some o)]) [(.aload_n 0, 1)] ⟨dX1_counts_130, rfl⟩ rfl ?_
                      refine t_gA C 271 41 134 dX1_counts_131 rfl rfl rfl rfl rfl q2259 (fun _ _ _ => rfl) ?_
                      refine t_b C (pc' := 137) (L' := [(0, vA (some o)), (1, vI s6), (2, vI (T7.a 31 (ni s6))), (3, vI (s9.1)), (4, vI s12)]) (st' := [vA (some o), vI s12, vA (some (o + 1 + 41))]) [(.iload 4, 2), (.aload_n 0, 1)] ⟨dX1_counts_134, dX1_counts_136, rfl⟩ rfl ?_
                      refine t_gA C 270 40 140 dX1_counts_137 rfl rfl rfl rfl rfl q2258 (fun _ _ _ => rfl) ?_
                      refine t_b C (pc' := 142) (L' := [(0, vA (some o)), (1, vI s6), (2, vI (T7.a 31 (ni s6))), (3, vI (s9.1)), (4, vI s12)]) (st' := [vI s12, vA (some (o + 1 + 40)), vI s12, vA (some (o + 1 + 41))]) [(.iload 4, 2)] ⟨dX1_counts_140, rfl⟩ rfl ?_
                      refine t_zald C 143 dX1_counts_142 rfl hw.1 ?_
                      replace hw := hw.2
                      obtain ⟨J21, hw, hJ21⟩ := tjn.out hw
                      have kj20 : ∀ (x26 : Int32) (T27 : TS), J21 x26 T27 → K 168 [(0, vA (some o)), (1, vI s6), (2, vI (T7.a 31 (ni s6))), (3, vI (s9.1)), (4, vI s12)] [vI x26, vI s12, vA (some (o + 1 + 41))] T27 := by
                        intro x26 T27 hj
                        replace hw := hJ21 x26 T27 hj
                        refine t_zast C 169 dX1_counts_168 rfl hw.1 (fun T28 eT28 => ?_)
                        replace hw := hw.2 T28 eT28
                        refine t_b C (pc' := 171) (L' := [(0, vA (some o)), (1, vI s6), (2, vI (T7.a 31 (ni s6))), (3, vI (s9.1)), (4, vI s12)]) (st' := [vA (some o), vA (some o)]) [(.aload_n 0, 1), (.dup, 1)] ⟨dX1_counts_169, dX1_counts_170, rfl⟩ rfl ?_
                        refine t_gI C 255 174 dX1_counts_171 rfl rfl rfl q2243 (fun _ _ _ => rfl) ?_
                        refine t_b C (pc' := 175) (L' := [(0, vA (some o)), (1, vI s6), (2, vI (T7.a 31 (ni s6))), (3, vI (s9.1)), (4, vI s12)]) (st' := [vA (some o), vI (T28.s 255), vA (some o)]) [(.aload_n 0, 1)] ⟨dX1_counts_174, rfl⟩ rfl ?_
                        refine t_gA C 271 41 178 dX1_counts_175 rfl rfl rfl rfl rfl q2259 (fun _ _ _ => rfl) ?_
                        refine t_b C (pc' := 180) (L' := [(0, vA (some o)), (1, vI s6), (2, vI (T7.a 31 (ni s6))), (3, vI (s9.1)), (4, vI s12)]) (st' := [vI s12, vA (some (o + 1 + 41)), vI (T28.s 255), vA (some o)]) [(.iload 4, 2)] ⟨dX1_counts_178, rfl⟩ rfl ?_
                        refine t_zald C 181 dX1_counts_180 rfl hw.1 ?_
                        replace hw := hw.2
                        have kj30 : ∀ (m29 : Int32), m29 = (if (T28.a 41 (ni s12)) = 0 then 0 else 1) → K 189 [(0, vA (some o)), (1, vI s6), (2, vI (T7.a 31 (ni s6))), (3, vI (s9.1)), (4, vI s12)] [vI m29, vI (T28.s 255), vA (some o)] T28 := by
                          intro m29 em29
                          replace hw := hw m29 em29
                          refine t_b C (pc' := 190) (L' := [(0, vA (some o)), (1, vI s6), (2, vI (T7.a 31 (ni s6))), (3, vI (s9.1)), (4, vI s12)]) (st' := [vI ((T28.s 255) + m29), vA (some o)]) [(.iadd, 1)] ⟨dX1_counts_189, rfl⟩ rfl ?_
                          refine t_pI C 255 193 dX1_counts_190 rfl rfl rfl rfl q2243 (fun _ _ _ => rfl) rfl rfl (fun T31 eT31 => ?_)
                          replace hw := hw T31 eT31
                          refine t_b C (pc' := 196) (L' := [(4, vI (s12 + 1)), (0, vA (some o)), (1, vI s6), (2, vI (T7.a 31 (ni s6))), (3, vI (s9.1))]) (st' := []) [(.iinc 4 1, 3)] ⟨dX1_counts_193, rfl⟩ rfl ?_
                          refine t_goto C 91 dX1_counts_196 rfl ?_
                          refine t_sub C (L' := [(0, vA (some o)), (1, vI s6), (2, vI (T7.a 31 (ni s6))), (3, vI (s9.1)), (4, vI (s12 + 1))]) [1, 2, 3, 4, 0] rfl ?_
                          obtain ⟨m9, hm9, hw⟩ := hw
                          exact ih12 m9 hm9 (s12 + 1) T31 hw
                        refine t_if_eq C 188 184 dX1_counts_181 rfl rfl (fun hc32 => ?_) (fun hc32 => ?_)
                        · refine t_b C (pc' := 189) (L' := [(0, vA (some o)), (1, vI s6), (2, vI (T7.a 31 (ni s6))), (3, vI (s9.1)), (4, vI s12)]) (st' := [vI 0, vI (T28.s 255), vA (some o)]) [(.iconst 0, 1)] ⟨dX1_counts_188, rfl⟩ rfl ?_
                          refine t_sub C (L' := [(0, vA (some o)), (1, vI s6), (2, vI (T7.a 31 (ni s6))), (3, vI (s9.1)), (4, vI s12)]) [0, 1, 2, 3, 4] rfl ?_
                          exact kj30 _ ((if_pos hc32).symm)
                        · refine t_b C (pc' := 185) (L' := [(0, vA (some o)), (1, vI s6), (2, vI (T7.a 31 (ni s6))), (3, vI (s9.1)), (4, vI s12)]) (st' := [vI 1, vI (T28.s 255), vA (some o)]) [(.iconst 1, 1)] ⟨dX1_counts_184, rfl⟩ rfl ?_
                          refine t_goto C 189 dX1_counts_185 rfl ?_
                          refine t_sub C (L' := [(0, vA (some o)), (1, vI s6), (2, vI (T7.a 31 (ni s6))), (3, vI (s9.1)), (4, vI s12)]) [0, 1, 2, 3, 4] rfl ?_
                          exact kj30 _ ((if_neg hc32).symm)
                      refine t_if_ne C 163 146 dX1_counts_143 rfl rfl (fun hc22 => ?_) (fun hc22 => ?_)
                      · replace hw := hw.2 hc22
                        refine t_b C (pc' := 164) (L' := [(0, vA (some o)), (1, vI s6), (2, vI (T7.a 31 (ni s6))), (3, vI (s9.1)), (4, vI s12)]) (st' := [vI 1, vI s12, vA (some (o + 1 + 41))]) [(.iconst 1, 1)] ⟨dX1_counts_163, rfl⟩ rfl ?_
                        refine t_goto C 168 dX1_counts_164 rfl ?_
                        refine t_sub C (L' := [(0, vA (some o)), (1, vI s6), (2, vI (T7.a 31 (ni s6))), (3, vI (s9.1)), (4, vI s12)]) [0, 1, 2, 3, 4] rfl ?_
                        exact kj20 1 T19 hw
                      · replace hw := hw.1 hc22
                        refine t_b C (pc' := 147) (L' := [(0, vA (some o)), (1, vI s6), (2, vI (T7.a 31 (ni s6))), (3, vI (s9.1)), (4, vI s12)]) (st' := [vA (some o), vI s12, vA (some (o + 1 + 41))]) [(.aload_n 0, 1)] ⟨dX1_counts_146, rfl⟩ rfl ?_
                        refine t_gA C 258 28 150 dX1_counts_147 rfl rfl rfl rfl rfl q2246 (fun _ _ _ => rfl) ?_
                        refine t_b C (pc' := 152) (L' := [(0, vA (some o)), (1, vI s6), (2, vI (T7.a 31 (ni s6))), (3, vI (s9.1)), (4, vI s12)]) (st' := [vI s12, vA (some (o + 1 + 28)), vI s12, vA (some (o + 1 + 41))]) [(.iload 4, 2)] ⟨dX1_counts_150, rfl⟩ rfl ?_
                        refine t_iald C 153 dX1_counts_152 rfl hw.1 ?_
                        replace hw := hw.2
                        refine t_b C (pc' := 154) (L' := [(0, vA (some o)), (1, vI s6), (2, vI (T7.a 31 (ni s6))), (3, vI (s9.1)), (4, vI s12)]) (st' := [vA (some o), vI (T19.a 28 (ni s12)), vI s12, vA (some (o + 1 + 41))]) [(.aload_n 0, 1)] ⟨dX1_counts_153, rfl⟩ rfl ?_
                        refine t_gA C 262 32 157 dX1_counts_154 rfl rfl rfl rfl rfl q2250 (fun _ _ _ => rfl) ?_
                        refine t_b C (pc' := 159) (L' := [(0, vA (some o)), (1, vI s6), (2, vI (T7.a 31 (ni s6))), (3, vI (s9.1)), (4, vI s12)]) (st' := [vI s12, vA (some (o + 1 + 32)), vI (T19.a 28 (ni s12)), vI s12, vA (some (o + 1 + 41))]) [(.iload 4, 2)] ⟨dX1_counts_157, rfl⟩ rfl ?_
                        refine t_iald C 160 dX1_counts_159 rfl hw.1 ?_
                        replace hw := hw.2
                        have kj24 : ∀ (m23 : Int32), m23 = (if (T19.a 28 (ni s12)) = (T19.a 32 (ni s12)) then 0 else 1) → K 168 [(0, vA (some o)), (1, vI s6), (2, vI (T7.a 31 (ni s6))), (3, vI (s9.1)), (4, vI s12)] [vI m23, vI s12, vA (some (o + 1 + 41))] T19 := by
                          intro m23 em23
                          replace hw := hw m23 em23
                          refine t_sub C (L' := [(0, vA (some o)), (1, vI s6), (2, vI (T7.a 31 (ni s6))), (3, vI (s9.1)), (4, vI s12)]) [0, 1, 2, 3, 4] rfl ?_
                          exact kj20 m23 T19 hw
                        refine t_icmp_eq C 167 163 dX1_counts_160 rfl rfl (fun hc25 => ?_) (fun hc25 => ?_)
                        · refine t_b C (pc' := 168) (L' := [(0, vA (some o)), (1, vI s6), (2, vI (T7.a 31 (ni s6))), (3, vI (s9.1)), (4, vI s12)]) (st' := [vI 0, vI s12, vA (some (o + 1 + 41))]) [(.iconst 0, 1)] ⟨dX1_counts_167, rfl⟩ rfl ?_
                          refine t_sub C (L' := [(0, vA (some o)), (1, vI s6), (2, vI (T7.a 31 (ni s6))), (3, vI (s9.1)), (4, vI s12)]) [0, 1, 2, 3, 4] rfl ?_
                          exact kj24 _ ((if_pos hc25).symm)
                        · refine t_b C (pc' := 164) (L' := [(0, vA (some o)), (1, vI s6), (2, vI (T7.a 31 (ni s6))), (3, vI (s9.1)), (4, vI s12)]) (st' := [vI 1, vI s12, vA (some (o + 1 + 41))]) [(.iconst 1, 1)] ⟨dX1_counts_163, rfl⟩ rfl ?_
                          refine t_goto C 168 dX1_counts_164 rfl ?_
                          refine t_sub C (L' := [(0, vA (some o)), (1, vI s6), (2, vI (T7.a 31 (ni s6))), (3, vI (s9.1)), (4, vI s12)]) [0, 1, 2, 3, 4] rfl ?_
                          exact kj24 _ ((if_neg hc25).symm)
                    · replace hw := hw.1 hc18
                      refine t_goto C 193 dX1_counts_117 rfl ?_
                      refine t_b C (pc' := 196) (L' := [(4, vI (s12 + 1)), (0, vA (some o)), (1, vI s6), (2, vI (T7.a 31 (ni s6))), (3, vI (s9.1))]) (st' := []) [(.iinc 4 1, 3)] ⟨dX1_counts_193, rfl⟩ rfl ?_
                      refine t_goto C 91 dX1_counts_196 rfl ?_
                      refine t_sub C (L' := [(0, vA (some o)), (1, vI s6), (2, vI (T7.a 31 (ni s6))), (3, vI (s9.1)), (4, vI (s12 + 1))]) [1, 2, 3, 4, 0] rfl ?_
                      obtain ⟨m9, hm9, hw⟩ := hw
                      exact ih12 m9 hm9 (s12 + 1) T16 hw
                  refine t_icmp_ge C 199 103 dX1_counts_100 rfl rfl (fun hc33 => ?_) (fun hc33 => ?_)
                  · exact kx14 (Or.inl hc33)
                  · refine t_b C (pc' := 104) (L' := [(0, vA (some o)), (1, vI s6), (2, vI (T7.a 31 (ni s6))), (3, vI (s9.1)), (4, vI s12)]) (st' := [vI (s9.1)]) [(.iload_n 3, 1)] ⟨dX1_counts_103, rfl⟩ rfl ?_
                    refine t_if_eq C 199 107 dX1_counts_104 rfl rfl (fun hc34 => ?_) (fun hc34 => ?_)
                    · exact kx14 (Or.inr hc34)
                    · refine t_b C (pc' := 111) (L' := [(0, vA (some o)), (1, vI s6), (2, vI (T7.a 31 (ni s6))), (3, vI (s9.1)), (4, vI s12)]) (st' := [vI (T7.a 31 (ni s6)), vI s12, vA (some o)]) [(.aload_n 0, 1), (.iload 4, 2), (.iload_n 2, 1)] ⟨dX1_counts_107, dX1_counts_108, dX1_counts_110, rfl⟩ rfl ?_
                      exact ky15 (fun h0 => h0.elim hc33 hc34)
              exact key12 n12 0 T10 hI12
            · replace hw := hw.2 hc11
              refine t_b C (pc' := 54) (L' := [(0, vA (some o)), (1, vI s6), (2, vI (T7.a 31 (ni s6))), (3, vI (s9.1)), (4, vI (s9.2))]) (st' := [vI (s9.1)]) [(.iload_n 3, 1)] ⟨dX1_counts_53, rfl⟩ rfl ?_
              refine t_if_ne C 76 57 dX1_counts_54 rfl rfl (fun hc35 => ?_) (fun hc35 => ?_)
              · replace hw := hw.2 hc35
                refine t_b C (pc' := 77) (L' := [(0, vA (some o)), (1, vI s6), (2, vI (T7.a 31 (ni s6))), (3, vI (s9.1)), (4, vI (s9.2))]) (st' := [vI 1]) [(.iconst 1, 1)] ⟨dX1_counts_76, rfl⟩ rfl ?_
                refine t_goto C 81 dX1_counts_77 rfl ?_
                refine t_b C (pc' := 85) (L' := [(4, vI (s9.2 + 1)), (3, vI 1), (0, vA (some o)), (1, vI s6), (2, vI (T7.a 31 (ni s6)))]) (st' := []) [(.istore_n 3, 1), (.iinc 4 1, 3)] ⟨dX1_counts_81, dX1_counts_82, rfl⟩ rfl ?_
                refine t_goto C 41 dX1_counts_85 rfl ?_
                refine t_sub C (L' := [(0, vA (some o)), (1, vI s6), (2, vI (T7.a 31 (ni s6))), (3, vI 1), (4, vI (s9.2 + 1))]) [2, 3, 4, 1, 0] rfl ?_
                obtain ⟨m9, hm9, hw⟩ := hw
                exact ih9 m9 hm9 (1, (s9.2 + 1)) T10 hw
              · replace hw := hw.1 hc35
                refine t_b C (pc' := 61) (L' := [(0, vA (some o)), (1, vI s6), (2, vI (T7.a 31 (ni s6))), (3, vI (s9.1)), (4, vI (s9.2))]) (st' := [vI (T7.a 31 (ni s6)), vI (s9.2), vA (some o)]) [(.aload_n 0, 1), (.iload 4, 2), (.iload_n 2, 1)] ⟨dX1_counts_57, dX1_counts_58, dX1_counts_60, rfl⟩ rfl ?_
                refine t_callVI C 64 [vI (s9.2), vI (T7.a 31 (ni s6))] [] dX1_counts_61 rfl (ok_X1_isOf hG hw) q2885 q2887 qs152 q159 q2888 hd_X1_isOf ⟨rfl, rfl, rfl⟩ (fun r37 T36 hw => ?_)
                refine t_if_eq C 80 67 dX1_counts_64 rfl rfl (fun hc38 => ?_) (fun hc38 => ?_)
                · replace hw := hw.1 hc38
                  refine t_b C (pc' := 85) (L' := [(4, vI (s9.2 + 1)), (3, vI 0), (0, vA (some o)), (1, vI s6), (2, vI (T7.a 31 (ni s6)))]) (st' := []) [(.iconst 0, 1), (.istore_n 3, 1), (.iinc 4 1, 3)] ⟨dX1_counts_80, dX1_counts_81, dX1_counts_82, rfl⟩ rfl ?_
                  refine t_goto C 41 dX1_counts_85 rfl ?_
                  refine t_sub C (L' := [(0, vA (some o)), (1, vI s6), (2, vI (T7.a 31 (ni s6))), (3, vI 0), (4, vI (s9.2 + 1))]) [2, 3, 4, 1, 0] rfl ?_
                  obtain ⟨m9, hm9, hw⟩ := hw
                  exact ih9 m9 hm9 (0, (s9.2 + 1)) T36 hw
                · replace hw := hw.2 hc38
                  refine t_b C (pc' := 70) (L' := [(0, vA (some o)), (1, vI s6), (2, vI (T7.a 31 (ni s6))), (3, vI (s9.1)), (4, vI (s9.2))]) (st' := [vI (s9.2), vA (some o)]) [(.aload_n 0, 1), (.iload 4, 2)] ⟨dX1_counts_67, dX1_counts_68, rfl⟩ rfl ?_
                  refine t_callVI C 73 [vI (s9.2)] [] dX1_counts_70 rfl (ok_X1_isTouched hG hw) q2889 q2891 qs153 q159 q2892 hd_X1_isTouched ⟨rfl, rfl, rfl⟩ (fun r40 T39 hw => ?_)
                  have kj42 : ∀ (m41 : Int32), m41 = (if r40 = 0 then 0 else 1) → K 81 [(0, vA (some o)), (1, vI s6), (2, vI (T7.a 31 (ni s6))), (4, vI (s9.2))] [vI m41] T39 := by
                    intro m41 em41
                    replace hw := hw m41 em41
                    refine t_b C (pc' := 85) (L' := [(4, vI (s9.2 + 1)), (3, vI m41), (0, vA (some o)), (1, vI s6), (2, vI (T7.a 31 (ni s6)))]) (st' := []) [(.istore_n 3, 1), (.iinc 4 1, 3)] ⟨dX1_counts_81, dX1_counts_82, rfl⟩ rfl ?_
                    refine t_goto C 41 dX1_counts_85 rfl ?_
                    refine t_sub C (L' := [(0, vA (some o)), (1, vI s6), (2, vI (T7.a 31 (ni s6))), (3, vI m41), (4, vI (s9.2 + 1))]) [2, 3, 4, 1, 0] rfl ?_
                    obtain ⟨m9, hm9, hw⟩ := hw
                    exact ih9 m9 hm9 (m41, (s9.2 + 1)) T39 hw
                  refine t_if_eq C 80 76 dX1_counts_73 rfl rfl (fun hc43 => ?_) (fun hc43 => ?_)
                  · refine t_b C (pc' := 81) (L' := [(0, vA (some o)), (1, vI s6), (2, vI (T7.a 31 (ni s6))), (3, vI (s9.1)), (4, vI (s9.2))]) (st' := [vI 0]) [(.iconst 0, 1)] ⟨dX1_counts_80, rfl⟩ rfl ?_
                    refine t_sub C (L' := [(0, vA (some o)), (1, vI s6), (2, vI (T7.a 31 (ni s6))), (4, vI (s9.2))]) [0, 1, 2, 4] rfl ?_
                    exact kj42 _ ((if_pos hc43).symm)
                  · refine t_b C (pc' := 77) (L' := [(0, vA (some o)), (1, vI s6), (2, vI (T7.a 31 (ni s6))), (3, vI (s9.1)), (4, vI (s9.2))]) (st' := [vI 1]) [(.iconst 1, 1)] ⟨dX1_counts_76, rfl⟩ rfl ?_
                    refine t_goto C 81 dX1_counts_77 rfl ?_
                    refine t_sub C (L' := [(0, vA (some o)), (1, vI s6), (2, vI (T7.a 31 (ni s6))), (4, vI (s9.2))]) [0, 1, 2, 4] rfl ?_
                    exact kj42 _ ((if_neg hc43).symm)
        exact key9 n9 (0, 0) T7 hI9
  exact key6 n6 0 T5 hI6
def wp_X1_depthOf : Nat → Int32 → TS → (Int32 → TS → Prop) → Prop
  | 0, _, _, _ => False
  | d + 1, p0, T, Q =>
    tix 21 40 p0 ∧
    (((T.a 21 (ni p0)) = (-1) →
    Q 0 T) ∧ (¬ (T.a 21 (ni p0)) = (-1) →
    tix 21 40 p0 ∧
    wp_X1_depthOf d (T.a 21 (ni p0)) T fun r3 T2 =>
    Q (r3 + 1) T2))
theorem hd_X1_depthOf : yX1_depthOf.cls = RX1 ∧ yX1_depthOf.cls ≠ "java/lang/invoke/MethodHandle" ∧ yX1_depthOf.cls ≠ "java/lang/invoke/VarHandle" ∧ (parseMethodDescriptor yX1_depthOf.desc).map (fun d => d.parameters.length) = some 1 := by decide +kernel
theorem ok_X1_depthOf {l : Launch} {D : va_G} {s0 : S0} (hG : G0 D s0) {o : Nat} : ∀ (d : Nat) {p0 : Int32} {T : TS} {Q : Int32 → TS → Prop}, wp_X1_depthOf d p0 T Q → OKt l D s0 o yX1_depthOf cX1_depthOf 2 (some .int) (0 + d) (0 + d * 21) [vA (some o), vI p0] T (TI Q) := by
  intro d
  induction d with
  | zero => intro p0 T Q hw; exact hw.elim
  | succ d ih =>
  intro p0 T Q hw
  refine t_met hG rfl rfl (L0 := [(0, vA (some o)), (1, vI p0)]) rfl rfl ?_
  intro h K C
  unfold wp_X1_depthOf at hw
  refine t_b C (pc' := 1) (L' := [(0, vA (some o)), (1, vI p0)]) (st' := [vA (some o)]) [(.aload_n 0, 1)] ⟨dX1_depthOf_0, rfl⟩ rfl ?_
  refine t_gA C 245 21 4 dX1_depthOf_1 rfl rfl rfl rfl rfl q2233 (fun _ _ _ => rfl) ?_
  refine t_b C (pc' := 5) (L' := [(0, vA (some o)), (1, vI p0)]) (st' := [vI p0, vA (some (o + 1 + 21))]) [(.iload_n 1, 1)] ⟨dX1_depthOf_4, rfl⟩ rfl ?_
  refine t_iald C 6 dX1_depthOf_5 rfl hw.1 ?_
  replace hw := hw.2
  refine t_b C (pc' := 7) (L' := [(0, vA (some o)), (1, vI p0)]) (st' := [vI (-1), vI (T.a 21 (ni p0))]) [(.iconst (-1), 1)] ⟨dX1_depthOf_6, rfl⟩ rfl ?_
  refine t_icmp_ne C 14 10 dX1_depthOf_7 rfl rfl (fun hc1 => ?_) (fun hc1 => ?_)
  · replace hw := hw.2 hc1
    refine t_b C (pc' := 16) (L' := [(0, vA (some o)), (1, vI p0)]) (st' := [vA (some o), vA (some o)]) [(.aload_n 0, 1), (.aload_n 0, 1)] ⟨dX1_depthOf_14, dX1_depthOf_15, rfl⟩ rfl ?_
    refine t_gA C 245 21 19 dX1_depthOf_16 rfl rfl rfl rfl rfl q2233 (fun _ _ _ => rfl) ?_
    refine t_b C (pc' := 20) (L' := [(0, vA (some o)), (1, vI p0)]) (st' := [vI p0, vA (some (o + 1 + 21)), vA (some o)]) [(.iload_n 1, 1)] ⟨dX1_depthOf_19, rfl⟩ rfl ?_
    refine t_iald C 21 dX1_depthOf_20 rfl hw.1 ?_
    replace hw := hw.2
    refine t_callVI C 24 [vI (T.a 21 (ni p0))] [] dX1_depthOf_21 rfl (ih hw) q2841 q2843 qs147 q159 q2844 hd_X1_depthOf ⟨Nat.ble_eq_true_of_le (by omega), Nat.ble_eq_true_of_le (by omega), rfl⟩ (fun r3 T2 hw => ?_)
    refine t_b C (pc' := 26) (L' := [(0, vA (some o)), (1, vI p0)]) (st' := [vI (r3 + 1)]) [(.iconst 1, 1), (.iadd, 1)] ⟨dX1_depthOf_24, dX1_depthOf_25, rfl⟩ rfl ?_
    exact t_iret C dX1_depthOf_26 ⟨_, rfl, hw⟩
  · replace hw := hw.1 hc1
    refine t_b C (pc' := 11) (L' := [(0, vA (some o)), (1, vI p0)]) (st' := [vI 0]) [(.iconst 0, 1)] ⟨dX1_depthOf_10, rfl⟩ rfl ?_
    refine t_goto C 26 dX1_depthOf_11 rfl ?_
    exact t_iret C dX1_depthOf_26 ⟨_, rfl, hw⟩
