set_option maxRecDepth 100000
def wp_X1_digest  (T : TS) (Q : Int32 → TS → Prop) : Prop :=
  wp_X1_hasTree  T fun r2 T1 =>
  ((r2 = 0 →
  wp_X1_refuse 3 T1 fun r11 T10 =>
  Q r11 T10) ∧ (¬ r2 = 0 →
  tlp (σ := Int32 × Int32) (fun s4 T5 k4 =>
  (((8 * (T5.s 250)) ≤ s4.2 →
  wp_X1_gives (s4.1) T5 fun r8 T7 =>
  Q r8 T7) ∧ (¬ (8 * (T5.s 250)) ≤ s4.2 →
  tix 36 42 s4.2 ∧
  (((T5.a 36 (ni s4.2)) = 0 →
  k4 (s4.1, (s4.2 + 1)) T5) ∧ (¬ (T5.a 36 (ni s4.2)) = 0 →
  tix 28 40 s4.2 ∧
  k4 (((31 * s4.1) + (T5.a 28 (ni s4.2))), (s4.2 + 1)) T5))))) (17, 0) T1))
theorem hd_X1_digest : yX1_digest.cls = RX1 ∧ yX1_digest.cls ≠ "java/lang/invoke/MethodHandle" ∧ yX1_digest.cls ≠ "java/lang/invoke/VarHandle" ∧ (parseMethodDescriptor yX1_digest.desc).map (fun d => d.parameters.length) = some 0 := by decide +kernel
theorem ok_X1_digest {l : Launch} {D : va_G} {s0 : S0} (hG : G0 D s0) {o : Nat}  {T : TS} {Q : Int32 → TS → Prop} (hw : wp_X1_digest  T Q) : OKt l D s0 o yX1_digest cX1_digest 3 (some .int) 1 21 [vA (some o)] T (TI Q) := by
  refine t_met hG rfl rfl (L0 := [(0, vA (some o))]) rfl rfl ?_
  intro h K C
  unfold wp_X1_digest at hw
  refine t_b C (pc' := 1) (L' := [(0, vA (some o))]) (st' := [vA (some o)]) [(.aload_n 0, 1)] ⟨dX1_digest_0, rfl⟩ rfl ?_
  refine t_callVI C 4 [] [] dX1_digest_1 rfl (ok_X1_hasTree hG hw) q2849 q2851 qs148 q159 q2852 hd_X1_hasTree ⟨rfl, rfl, rfl⟩ (fun r2 T1 hw => ?_)
  refine t_if_ne C 13 7 dX1_digest_4 rfl rfl (fun hc3 => ?_) (fun hc3 => ?_)
  · replace hw := hw.2 hc3
    refine t_b C (pc' := 18) (L' := [(2, vI 0), (1, vI 17), (0, vA (some o))]) (st' := []) [(.bipush 17, 2), (.istore_n 1, 1), (.iconst 0, 1), (.istore_n 2, 1)] ⟨dX1_digest_13, dX1_digest_15, dX1_digest_16, dX1_digest_17, rfl⟩ rfl ?_
    obtain ⟨I4, ⟨n4, hI4⟩, hB4⟩ := tlp.out hw
    refine t_sub C (L' := [(0, vA (some o)), (1, vI 17), (2, vI 0)]) [2, 1, 0] rfl ?_
    have key4 : ∀ (n : Nat) (s4 : Int32 × Int32) (T5 : TS), I4 n s4 T5 → K 18 [(0, vA (some o)), (1, vI (s4.1)), (2, vI (s4.2))] [] T5 := by
      intro n
      induction n using Nat.strongRecOn with
      | ind n ih4 =>
        intro s4 T5 hI
        replace hw := hB4 n s4 T5 hI
        refine t_b C (pc' := 22) (L' := [(0, vA (some o)), (1, vI (s4.1)), (2, vI (s4.2))]) (st' := [vA (some o), vI 8, vI (s4.2)]) [(.iload_n 2, 1), (.bipush 8, 2), (.aload_n 0, 1)] ⟨dX1_digest_18, dX1_digest_19, dX1_digest_21, rfl⟩ rfl ?_
        refine t_gI C 250 25 dX1_digest_22 rfl rfl rfl q2238 (fun _ _ _ => rfl) ?_
        refine t_b C (pc' := 26) (L' := [(0, vA (some o)), (1, vI (s4.1)), (2, vI (s4.2))]) (st' := [vI (8 * (T5.s 250)), vI (s4.2)]) [(.imul, 1)] ⟨dX1_digest_25, rfl⟩ rfl ?_
        refine t_icmp_ge C 56 29 dX1_digest_26 rfl rfl (fun hc6 => ?_) (fun hc6 => ?_)
        · replace hw := hw.1 hc6
          refine t_b C (pc' := 58) (L' := [(0, vA (some o)), (1, vI (s4.1)), (2, vI (s4.2))]) (st' := [vI (s4.1), vA (some o)]) [(.aload_n 0, 1), (.iload_n 1, 1)] ⟨dX1_digest_56, dX1_digest_57, rfl⟩ rfl ?_
          refine t_callVI C 61 [vI (s4.1)] [] dX1_digest_58 rfl (ok_X1_gives hG hw) q2589 q2591 qs100 q159 q2592 hd_X1_gives ⟨rfl, rfl, rfl⟩ (fun r8 T7 hw => ?_)
          exact t_iret C dX1_digest_61 ⟨_, rfl, hw⟩
        · replace hw := hw.2 hc6
          refine t_b C (pc' := 30) (L' := [(0, vA (some o)), (1, vI (s4.1)), (2, vI (s4.2))]) (st' := [vA (some o)]) [(.aload_n 0, 1)] ⟨dX1_digest_29, rfl⟩ rfl ?_
          refine t_gA C 266 36 33 dX1_digest_30 rfl rfl rfl rfl rfl q2254 (fun _ _ _ => rfl) ?_
          refine t_b C (pc' := 34) (L' := [(0, vA (some o)), (1, vI (s4.1)), (2, vI (s4.2))]) (st' := [vI (s4.2), vA (some (o + 1 + 36))]) [(.iload_n 2, 1)] ⟨dX1_digest_33, rfl⟩ rfl ?_
          refine t_zald C 35 dX1_digest_34 rfl hw.1 ?_
          replace hw := hw.2
          refine t_if_eq C 50 38 dX1_digest_35 rfl rfl (fun hc9 => ?_) (fun hc9 => ?_)
          · replace hw := hw.1 hc9
            refine t_b C (pc' := 53) (L' := [(2, vI (s4.2 + 1)), (0, vA (some o)), (1, vI (s4.1))]) (st' := []) [(.iinc 2 1, 3)] ⟨dX1_digest_50, rfl⟩ rfl ?_
            refine t_goto C 18 dX1_digest_53 rfl ?_
            refine t_sub C (L' := [(0, vA (some o)), (1, vI (s4.1)), (2, vI (s4.2 + 1))]) [1, 2, 0] rfl ?_
            obtain ⟨m9, hm9, hw⟩ := hw
            exact ih4 m9 hm9 (s4.1, (s4.2 + 1)) T5 hw
          · replace hw := hw.2 hc9
            refine t_b C (pc' := 43) (L' := [(0, vA (some o)), (1, vI (s4.1)), (2, vI (s4.2))]) (st' := [vA (some o), vI (31 * s4.1)]) [(.bipush 31, 2), (.iload_n 1, 1), (.imul, 1), (.aload_n 0, 1)] ⟨dX1_digest_38, dX1_digest_40, dX1_digest_41, dX1_digest_42, rfl⟩ rfl ?_
            refine t_gA C 258 28 46 dX1_digest_43 rfl rfl rfl rfl rfl q2246 (fun _ _ _ => rfl) ?_
            refine t_b C (pc' := 47) (L' := [(0, vA (some o)), (1, vI (s4.1)), (2, vI (s4.2))]) (st' := [vI (s4.2), vA (some (o + 1 + 28)), vI (31 * s4.1)]) [(.iload_n 2, 1)] ⟨dX1_digest_46, rfl⟩ rfl ?_
            refine t_iald C 48 dX1_digest_47 rfl hw.1 ?_
            replace hw := hw.2
            refine t_b C (pc' := 53) (L' := [(2, vI (s4.2 + 1)), (1, vI ((31 * s4.1) + (T5.a 28 (ni s4.2)))), (0, vA (some o))]) (st' := []) [(.iadd, 1), (.istore_n 1, 1), (.iinc 2 1, 3)] ⟨dX1_digest_48, dX1_digest_49, dX1_digest_50, rfl⟩ rfl ?_
            refine t_goto C 18 dX1_digest_53 rfl ?_
            refine t_sub C (L' := [(0, vA (some o)), (1, vI ((31 * s4.1) + (T5.a 28 (ni s4.2)))), (2, vI (s4.2 + 1))]) [2, 1, 0] rfl ?_
            obtain ⟨m9, hm9, hw⟩ := hw
            exact ih4 m9 hm9 (((31 * s4.1) + (T5.a 28 (ni s4.2))), (s4.2 + 1)) T5 hw
    exact key4 n4 (17, 0) T1 hI4
  · replace hw := hw.1 hc3
    refine t_b C (pc' := 9) (L' := [(0, vA (some o))]) (st' := [vI 3, vA (some o)]) [(.aload_n 0, 1), (.iconst 3, 1)] ⟨dX1_digest_7, dX1_digest_8, rfl⟩ rfl ?_
    refine t_callVI C 12 [vI 3] [] dX1_digest_9 rfl (ok_X1_refuse hG hw) q2434 q2436 qs70 q159 q2437 hd_X1_refuse ⟨rfl, rfl, rfl⟩ (fun r11 T10 hw => ?_)
    exact t_iret C dX1_digest_12 ⟨_, rfl, hw⟩
def wp_X1_isSign (p0 : Int32) (T : TS) (Q : Int32 → TS → Prop) : Prop :=
  ∀ m1 : Int32, m1 = (if (T.s 213) = 4 then (if (T.s 215) = p0 then 1 else 0) else 0) →
  bz m1 ∧ Q m1 T
theorem hd_X1_isSign : yX1_isSign.cls = RX1 ∧ yX1_isSign.cls ≠ "java/lang/invoke/MethodHandle" ∧ yX1_isSign.cls ≠ "java/lang/invoke/VarHandle" ∧ (parseMethodDescriptor yX1_isSign.desc).map (fun d => d.parameters.length) = some 1 := by decide +kernel
theorem ok_X1_isSign {l : Launch} {D : va_G} {s0 : S0} (hG : G0 D s0) {o : Nat} {p0 : Int32} {T : TS} {Q : Int32 → TS → Prop} (hw : wp_X1_isSign p0 T Q) : OKt l D s0 o yX1_isSign cX1_isSign 2 (some .boolean) 0 0 [vA (some o), vI p0] T (TI Q) := by
  refine t_met hG rfl rfl (L0 := [(0, vA (some o)), (1, vI p0)]) rfl rfl ?_
  intro h K C
  unfold wp_X1_isSign at hw
  refine t_b C (pc' := 1) (L' := [(0, vA (some o)), (1, vI p0)]) (st' := [vA (some o)]) [(.aload_n 0, 1)] ⟨dX1_isSign_0, rfl⟩ rfl ?_
  refine t_gI C 213 4 dX1_isSign_1 rfl rfl rfl q2201 (fun _ _ _ => rfl) ?_
  refine t_b C (pc' := 5) (L' := [(0, vA (some o)), (1, vI p0)]) (st' := [vI 4, vI (T.s 213)]) [(.iconst 4, 1)] ⟨dX1_isSign_4, rfl⟩ rfl ?_
  have kj2 : ∀ (m1 : Int32), m1 = (if (T.s 213) = 4 then (if (T.s 215) = p0 then 1 else 0) else 0) → K 21 [] [vI m1] T := by
    intro m1 em1
    replace hw := hw m1 em1
    exact t_zret C dX1_isSign_21 (bz_n hw.1) ⟨_, rfl, hw.2⟩
  refine t_icmp_ne C 20 8 dX1_isSign_5 rfl rfl (fun hc3 => ?_) (fun hc3 => ?_)
  · refine t_b C (pc' := 21) (L' := [(0, vA (some o)), (1, vI p0)]) (st' := [vI 0]) [(.iconst 0, 1)] ⟨dX1_isSign_20, rfl⟩ rfl ?_
    refine t_sub C (L' := []) [] rfl ?_
    exact kj2 _ ((if_neg hc3).symm)
  · refine t_b C (pc' := 9) (L' := [(0, vA (some o)), (1, vI p0)]) (st' := [vA (some o)]) [(.aload_n 0, 1)] ⟨dX1_isSign_8, rfl⟩ rfl ?_
    refine t_gI C 215 12 dX1_isSign_9 rfl rfl rfl q2203 (fun _ _ _ => rfl) ?_
    refine t_b C (pc' := 13) (L' := [(0, vA (some o)), (1, vI p0)]) (st' := [vI p0, vI (T.s 215)]) [(.iload_n 1, 1)] ⟨dX1_isSign_12, rfl⟩ rfl ?_
    refine t_icmp_ne C 20 16 dX1_isSign_13 rfl rfl (fun hc4 => ?_) (fun hc4 => ?_)
    · refine t_b C (pc' := 21) (L' := [(0, vA (some o)), (1, vI p0)]) (st' := [vI 0]) [(.iconst 0, 1)] ⟨dX1_isSign_20, rfl⟩ rfl ?_
      refine t_sub C (L' := []) [] rfl ?_
      exact kj2 _ (((if_neg hc4).symm).trans ((if_pos hc3).symm))
    · refine t_b C (pc' := 17) (L' := [(0, vA (some o)), (1, vI p0)]) (st' := [vI 1]) [(.iconst 1, 1)] ⟨dX1_isSign_16, rfl⟩ rfl ?_
      refine t_goto C 21 dX1_isSign_17 rfl ?_
      refine t_sub C (L' := []) [] rfl ?_
      exact kj2 _ (((if_pos hc4).symm).trans ((if_pos hc3).symm))
def wp_X1_eats (p0 : Int32) (T : TS) (Q : Int32 → TS → Prop) : Prop :=
  wp_X1_isSign p0 T fun r2 T1 =>
  ((r2 = 0 →
  wp_X1_bad 2 T1 fun r7 T6 =>
  bz r7 ∧ Q r7 T6) ∧ (¬ r2 = 0 →
  wp_X1_go  T1 fun T4 =>
  Q 1 T4))
theorem hd_X1_eats : yX1_eats.cls = RX1 ∧ yX1_eats.cls ≠ "java/lang/invoke/MethodHandle" ∧ yX1_eats.cls ≠ "java/lang/invoke/VarHandle" ∧ (parseMethodDescriptor yX1_eats.desc).map (fun d => d.parameters.length) = some 1 := by decide +kernel
theorem ok_X1_eats {l : Launch} {D : va_G} {s0 : S0} (hG : G0 D s0) {o : Nat} {p0 : Int32} {T : TS} {Q : Int32 → TS → Prop} (hw : wp_X1_eats p0 T Q) : OKt l D s0 o yX1_eats cX1_eats 2 (some .boolean) 2 42 [vA (some o), vI p0] T (TI Q) := by
  refine t_met hG rfl rfl (L0 := [(0, vA (some o)), (1, vI p0)]) rfl rfl ?_
  intro h K C
  unfold wp_X1_eats at hw
  refine t_b C (pc' := 2) (L' := [(0, vA (some o)), (1, vI p0)]) (st' := [vI p0, vA (some o)]) [(.aload_n 0, 1), (.iload_n 1, 1)] ⟨dX1_eats_0, dX1_eats_1, rfl⟩ rfl ?_
  refine t_callVI C 5 [vI p0] [] dX1_eats_2 rfl (ok_X1_isSign hG hw) q2501 q2503 qs81 q159 q2504 hd_X1_isSign ⟨rfl, rfl, rfl⟩ (fun r2 T1 hw => ?_)
  refine t_if_ne C 14 8 dX1_eats_5 rfl rfl (fun hc3 => ?_) (fun hc3 => ?_)
  · replace hw := hw.2 hc3
    refine t_b C (pc' := 15) (L' := [(0, vA (some o)), (1, vI p0)]) (st' := [vA (some o)]) [(.aload_n 0, 1)] ⟨dX1_eats_14, rfl⟩ rfl ?_
    refine t_callVV C 18 [] [] dX1_eats_15 rfl (ok_X1_go hG hw) q2442 q2444 qs72 q159 q2445 hd_X1_go ⟨rfl, rfl, rfl⟩ (fun T4 hw => ?_)
    refine t_b C (pc' := 19) (L' := [(0, vA (some o)), (1, vI p0)]) (st' := [vI 1]) [(.iconst 1, 1)] ⟨dX1_eats_18, rfl⟩ rfl ?_
    exact t_zret C dX1_eats_19 rfl ⟨_, rfl, hw⟩
  · replace hw := hw.1 hc3
    refine t_b C (pc' := 10) (L' := [(0, vA (some o)), (1, vI p0)]) (st' := [vI 2, vA (some o)]) [(.aload_n 0, 1), (.iconst 2, 1)] ⟨dX1_eats_8, dX1_eats_9, rfl⟩ rfl ?_
    refine t_callVI C 13 [vI 2] [] dX1_eats_10 rfl (ok_X1_bad hG hw) q2479 q2481 qs77 q159 q2482 hd_X1_bad ⟨rfl, rfl, rfl⟩ (fun r7 T6 hw => ?_)
    exact t_zret C dX1_eats_13 (bz_n hw.1) ⟨_, rfl, hw.2⟩
def wp_X1_ends (p0 : Int32) (T : TS) (Q : Int32 → TS → Prop) : Prop :=
  ∀ T1, T1 = T.ss 207 (T.s 216) →
  ∀ T2, T2 = T1.ss 208 (T1.s 217) →
  ∀ m3 : Int32, m3 = (if p0 = 0 then 9 else 0) →
  Q m3 T2
theorem hd_X1_ends : yX1_ends.cls = RX1 ∧ yX1_ends.cls ≠ "java/lang/invoke/MethodHandle" ∧ yX1_ends.cls ≠ "java/lang/invoke/VarHandle" ∧ (parseMethodDescriptor yX1_ends.desc).map (fun d => d.parameters.length) = some 1 := by decide +kernel
theorem ok_X1_ends {l : Launch} {D : va_G} {s0 : S0} (hG : G0 D s0) {o : Nat} {p0 : Int32} {T : TS} {Q : Int32 → TS → Prop} (hw : wp_X1_ends p0 T Q) : OKt l D s0 o yX1_ends cX1_ends 2 (some .int) 0 0 [vA (some o), vI p0] T (TI Q) := by
  refine t_met hG rfl rfl (L0 := [(0, vA (some o)), (1, vI p0)]) rfl rfl ?_
  intro h K C
  unfold wp_X1_ends at hw
  refine t_b C (pc' := 2) (L' := [(0, vA (some o)), (1, vI p0)]) (st' := [vA (some o), vA (some o)]) [(.aload_n 0, 1), (.aload_n 0, 1)] ⟨dX1_ends_0, dX1_ends_1, rfl⟩ rfl ?_
  refine t_gI C 216 5 dX1_ends_2 rfl rfl rfl q2204 (fun _ _ _ => rfl) ?_
  refine t_pI C 207 8 dX1_ends_5 rfl rfl rfl rfl q2195 (fun _ _ _ => rfl) rfl rfl (fun T1 eT1 => ?_)
  replace hw := hw T1 eT1
  refine t_b C (pc' := 10) (L' := [(0, vA (some o)), (1, vI p0)]) (st' := [vA (some o), vA (some o)]) [(.aload_n 0, 1), (.aload_n 0, 1)] ⟨dX1_ends_8, dX1_ends_9, rfl⟩ rfl ?_
  refine t_gI C 217 13 dX1_ends_10 rfl rfl rfl q2205 (fun _ _ _ => rfl) ?_
  refine t_pI C 208 16 dX1_ends_13 rfl rfl rfl rfl q2196 (fun _ _ _ => rfl) rfl rfl (fun T2 eT2 => ?_)
  replace hw := hw T2 eT2
  refine t_b C (pc' := 17) (L' := [(0, vA (some o)), (1, vI p0)]) (st' := [vI p0]) [(.iload_n 1, 1)] ⟨dX1_ends_16, rfl⟩ rfl ?_
  have kj4 : ∀ (m3 : Int32), m3 = (if p0 = 0 then 9 else 0) → K 26 [] [vI m3] T2 := by
    intro m3 em3
    replace hw := hw m3 em3
    exact t_iret C dX1_ends_26 ⟨_, rfl, hw⟩
  refine t_if_eq C 24 20 dX1_ends_17 rfl rfl (fun hc5 => ?_) (fun hc5 => ?_)
  · refine t_b C (pc' := 26) (L' := [(0, vA (some o)), (1, vI p0)]) (st' := [vI 9]) [(.bipush 9, 2)] ⟨dX1_ends_24, rfl⟩ rfl ?_
    refine t_sub C (L' := []) [] rfl ?_
    exact kj4 _ ((if_pos hc5).symm)
  · refine t_b C (pc' := 21) (L' := [(0, vA (some o)), (1, vI p0)]) (st' := [vI 0]) [(.iconst 0, 1)] ⟨dX1_ends_20, rfl⟩ rfl ?_
    refine t_goto C 26 dX1_ends_21 rfl ?_
    refine t_sub C (L' := []) [] rfl ?_
    exact kj4 _ ((if_neg hc5).symm)
def wp_X1_fault (p0 : Int32) (T : TS) (Q : Int32 → TS → Prop) : Prop :=
  ∀ m1 : Int32, m1 = (if p0 = 0 then (T.s 207) else (if p0 = 1 then (T.s 208) else (-1))) →
  Q m1 T
theorem hd_X1_fault : yX1_fault.cls = RX1 ∧ yX1_fault.cls ≠ "java/lang/invoke/MethodHandle" ∧ yX1_fault.cls ≠ "java/lang/invoke/VarHandle" ∧ (parseMethodDescriptor yX1_fault.desc).map (fun d => d.parameters.length) = some 1 := by decide +kernel
theorem ok_X1_fault {l : Launch} {D : va_G} {s0 : S0} (hG : G0 D s0) {o : Nat} {p0 : Int32} {T : TS} {Q : Int32 → TS → Prop} (hw : wp_X1_fault p0 T Q) : OKt l D s0 o yX1_fault cX1_fault 2 (some .int) 0 0 [vA (some o), vI p0] T (TI Q) := by
  refine t_met hG rfl rfl (L0 := [(0, vA (some o)), (1, vI p0)]) rfl rfl ?_
  intro h K C
  unfold wp_X1_fault at hw
  refine t_b C (pc' := 1) (L' := [(0, vA (some o)), (1, vI p0)]) (st' := [vI p0]) [(.iload_n 1, 1)] ⟨dX1_fault_0, rfl⟩ rfl ?_
  have kj2 : ∀ (m1 : Int32), m1 = (if p0 = 0 then (T.s 207) else (if p0 = 1 then (T.s 208) else (-1))) → K 24 [] [vI m1] T := by
    intro m1 em1
    replace hw := hw m1 em1
    exact t_iret C dX1_fault_24 ⟨_, rfl, hw⟩
  refine t_if_ne C 11 4 dX1_fault_1 rfl rfl (fun hc3 => ?_) (fun hc3 => ?_)
  · refine t_b C (pc' := 13) (L' := [(0, vA (some o)), (1, vI p0)]) (st' := [vI 1, vI p0]) [(.iload_n 1, 1), (.iconst 1, 1)] ⟨dX1_fault_11, dX1_fault_12, rfl⟩ rfl ?_
    refine t_icmp_ne C 23 16 dX1_fault_13 rfl rfl (fun hc4 => ?_) (fun hc4 => ?_)
    · refine t_b C (pc' := 24) (L' := [(0, vA (some o)), (1, vI p0)]) (st' := [vI (-1)]) [(.iconst (-1), 1)] ⟨dX1_fault_23, rfl⟩ rfl ?_
      refine t_sub C (L' := []) [] rfl ?_
      exact kj2 _ (((if_neg hc4).symm).trans ((if_neg hc3).symm))
    · refine t_b C (pc' := 17) (L' := [(0, vA (some o)), (1, vI p0)]) (st' := [vA (some o)]) [(.aload_n 0, 1)] ⟨dX1_fault_16, rfl⟩ rfl ?_
      refine t_gI C 208 20 dX1_fault_17 rfl rfl rfl q2196 (fun _ _ _ => rfl) ?_
      refine t_goto C 24 dX1_fault_20 rfl ?_
      refine t_sub C (L' := []) [] rfl ?_
      exact kj2 _ (((if_pos hc4).symm).trans ((if_neg hc3).symm))
  · refine t_b C (pc' := 5) (L' := [(0, vA (some o)), (1, vI p0)]) (st' := [vA (some o)]) [(.aload_n 0, 1)] ⟨dX1_fault_4, rfl⟩ rfl ?_
    refine t_gI C 207 8 dX1_fault_5 rfl rfl rfl q2195 (fun _ _ _ => rfl) ?_
    refine t_goto C 24 dX1_fault_8 rfl ?_
    refine t_sub C (L' := []) [] rfl ?_
    exact kj2 _ ((if_pos hc3).symm)
def wp_X1_feed (p0 : Int32) (p1 : Int32) (p2 : Int32) (p3 : Int32) (p4 : Int32) (T : TS) (Q : Int32 → TS → Prop) : Prop :=
  ((((T.s 205) + 20) ≤ 1000 →
  wp_X1_come p0 T fun T2 =>
  wp_X1_come p1 T2 fun T4 =>
  wp_X1_come p2 T4 fun T6 =>
  wp_X1_come p3 T6 fun T8 =>
  wp_X1_come p4 T8 fun T10 =>
  Q (T10.s 205) T10) ∧ (¬ ((T.s 205) + 20) ≤ 1000 →
  Q (-1) T))
theorem hd_X1_feed : yX1_feed.cls = RX1 ∧ yX1_feed.cls ≠ "java/lang/invoke/MethodHandle" ∧ yX1_feed.cls ≠ "java/lang/invoke/VarHandle" ∧ (parseMethodDescriptor yX1_feed.desc).map (fun d => d.parameters.length) = some 5 := by decide +kernel
theorem ok_X1_feed {l : Launch} {D : va_G} {s0 : S0} (hG : G0 D s0) {o : Nat} {p0 : Int32} {p1 : Int32} {p2 : Int32} {p3 : Int32} {p4 : Int32} {T : TS} {Q : Int32 → TS → Prop} (hw : wp_X1_feed p0 p1 p2 p3 p4 T Q) : OKt l D s0 o yX1_feed cX1_feed 6 (some .int) 1 22 [vA (some o), vI p0, vI p1, vI p2, vI p3, vI p4] T (TI Q) := by
  refine t_met hG rfl rfl (L0 := [(0, vA (some o)), (1, vI p0), (2, vI p1), (3, vI p2), (4, vI p3), (5, vI p4)]) rfl rfl ?_
  intro h K C
  unfold wp_X1_feed at hw
  refine t_b C (pc' := 1) (L' := [(0, vA (some o)), (1, vI p0), (2, vI p1), (3, vI p2), (4, vI p3), (5, vI p4)]) (st' := [vA (some o)]) [(.aload_n 0, 1)] ⟨dX1_feed_0, rfl⟩ rfl ?_
  refine t_gI C 205 4 dX1_feed_1 rfl rfl rfl q2193 (fun _ _ _ => rfl) ?_
  refine t_b C (pc' := 10) (L' := [(0, vA (some o)), (1, vI p0), (2, vI p1), (3, vI p2), (4, vI p3), (5, vI p4)]) (st' := [vI 1000, vI ((T.s 205) + 20)]) [(.bipush 20, 2), (.iadd, 1), (.sipush 1000, 3)] ⟨dX1_feed_4, dX1_feed_6, dX1_feed_7, rfl⟩ rfl ?_
  refine t_icmp_le C 15 13 dX1_feed_10 rfl rfl (fun hc1 => ?_) (fun hc1 => ?_)
  · replace hw := hw.1 hc1
    refine t_b C (pc' := 17) (L' := [(0, vA (some o)), (1, vI p0), (2, vI p1), (3, vI p2), (4, vI p3), (5, vI p4)]) (st' := [vI p0, vA (some o)]) [(.aload_n 0, 1), (.iload_n 1, 1)] ⟨dX1_feed_15, dX1_feed_16, rfl⟩ rfl ?_
    refine t_callVV C 20 [vI p0] [] dX1_feed_17 rfl (ok_X1_come hG hw) q2423 q2425 qs69 q159 q2426 hd_X1_come ⟨rfl, rfl, rfl⟩ (fun T2 hw => ?_)
    refine t_b C (pc' := 22) (L' := [(0, vA (some o)), (1, vI p0), (2, vI p1), (3, vI p2), (4, vI p3), (5, vI p4)]) (st' := [vI p1, vA (some o)]) [(.aload_n 0, 1), (.iload_n 2, 1)] ⟨dX1_feed_20, dX1_feed_21, rfl⟩ rfl ?_
    refine t_callVV C 25 [vI p1] [] dX1_feed_22 rfl (ok_X1_come hG hw) q2423 q2425 qs69 q159 q2426 hd_X1_come ⟨rfl, rfl, rfl⟩ (fun T4 hw => ?_)
    refine t_b C (pc' := 27) (L' := [(0, vA (some o)), (1, vI p0), (2, vI p1), (3, vI p2), (4, vI p3), (5, vI p4)]) (st' := [vI p2, vA (some o)]) [(.aload_n 0, 1), (.iload_n 3, 1)] ⟨dX1_feed_25, dX1_feed_26, rfl⟩ rfl ?_
    refine t_callVV C 30 [vI p2] [] dX1_feed_27 rfl (ok_X1_come hG hw) q2423 q2425 qs69 q159 q2426 hd_X1_come ⟨rfl, rfl, rfl⟩ (fun T6 hw => ?_)
    refine t_b C (pc' := 33) (L' := [(0, vA (some o)), (1, vI p0), (2, vI p1), (3, vI p2), (4, vI p3), (5, vI p4)]) (st' := [vI p3, vA (some o)]) [(.aload_n 0, 1), (.iload 4, 2)] ⟨dX1_feed_30, dX1_feed_31, rfl⟩ rfl ?_
    refine t_callVV C 36 [vI p3] [] dX1_feed_33 rfl (ok_X1_come hG hw) q2423 q2425 qs69 q159 q2426 hd_X1_come ⟨rfl, rfl, rfl⟩ (fun T8 hw => ?_)
    refine t_b C (pc' := 39) (L' := [(0, vA (some o)), (1, vI p0), (2, vI p1), (3, vI p2), (4, vI p3), (5, vI p4)]) (st' := [vI p4, vA (some o)]) [(.aload_n 0, 1), (.iload 5, 2)] ⟨dX1_feed_36, dX1_feed_37, rfl⟩ rfl ?_
    refine t_callVV C 42 [vI p4] [] dX1_feed_39 rfl (ok_X1_come hG hw) q2423 q2425 qs69 q159 q2426 hd_X1_come ⟨rfl, rfl, rfl⟩ (fun T10 hw => ?_)
    refine t_b C (pc' := 43) (L' := [(0, vA (some o)), (1, vI p0), (2, vI p1), (3, vI p2), (4, vI p3), (5, vI p4)]) (st' := [vA (some o)]) [(.aload_n 0, 1)] ⟨dX1_feed_42, rfl⟩ rfl ?_
    refine t_gI C 205 46 dX1_feed_43 rfl rfl rfl q2193 (fun _ _ _ => rfl) ?_
    exact t_iret C dX1_feed_46 ⟨_, rfl, hw⟩
  · replace hw := hw.2 hc1
    refine t_b C (pc' := 14) (L' := [(0, vA (some o)), (1, vI p0), (2, vI p1), (3, vI p2), (4, vI p3), (5, vI p4)]) (st' := [vI (-1)]) [(.iconst (-1), 1)] ⟨dX1_feed_13, rfl⟩ rfl ?_
    exact t_iret C dX1_feed_14 ⟨_, rfl, hw⟩
def wp_X1_findIn (p0 : Nat) (p1 : Int32) (p2 : Int32) (p3 : Int64) (T : TS) (Q : Int32 → TS → Prop) : Prop :=
  tlp (σ := Int32) (fun s1 T2 k1 =>
  ((p2 ≤ s1 →
  Q (-1) T2) ∧ (¬ p2 ≤ s1 →
  tix p0 43 (p1 + s1) ∧
  (((lg_cmp (T2.l p0 (ni (p1 + s1))) p3) = 0 →
  Q s1 T2) ∧ (¬ (lg_cmp (T2.l p0 (ni (p1 + s1))) p3) = 0 →
  k1 (s1 + 1) T2))))) 0 T
theorem hd_X1_findIn : yX1_findIn.cls ≠ "java/lang/invoke/MethodHandle" ∧ yX1_findIn.cls ≠ "java/lang/invoke/VarHandle" ∧ (parseMethodDescriptor yX1_findIn.desc).map (fun d => d.parameters.length) = some 4 := by decide +kernel
theorem ok_X1_findIn {l : Launch} {D : va_G} {s0 : S0} (hG : G0 D s0) {o : Nat} {p0 : Nat} {p1 : Int32} {p2 : Int32} {p3 : Int64} {T : TS} {Q : Int32 → TS → Prop} (hw : wp_X1_findIn p0 p1 p2 p3 T Q) : OKt l D s0 o yX1_findIn cX1_findIn 6 (some .int) 0 0 [vA (some (o + 1 + p0)), vI p1, vI p2, vJ p3] T (TI Q) := by
  refine t_met hG rfl rfl (L0 := [(0, vA (some (o + 1 + p0))), (1, vI p1), (2, vI p2), (3, vJ p3)]) rfl rfl ?_
  intro h K C
  unfold wp_X1_findIn at hw
  refine t_b C (pc' := 3) (L' := [(5, vI 0), (0, vA (some (o + 1 + p0))), (1, vI p1), (2, vI p2), (3, vJ p3)]) (st' := []) [(.iconst 0, 1), (.istore 5, 2)] ⟨dX1_findIn_0, dX1_findIn_1, rfl⟩ rfl ?_
  obtain ⟨I1, ⟨n1, hI1⟩, hB1⟩ := tlp.out hw
  refine t_sub C (L' := [(0, vA (some (o + 1 + p0))), (1, vI p1), (2, vI p2), (3, vJ p3), (5, vI 0)]) [1, 2, 3, 4, 0] rfl ?_
  have key1 : ∀ (n : Nat) (s1 : Int32) (T2 : TS), I1 n s1 T2 → K 3 [(0, vA (some (o + 1 + p0))), (1, vI p1), (2, vI p2), (3, vJ p3), (5, vI s1)] [] T2 := by
    intro n
    induction n using Nat.strongRecOn with
    | ind n ih1 =>
      intro s1 T2 hI
      replace hw := hB1 n s1 T2 hI
      refine t_b C (pc' := 6) (L' := [(0, vA (some (o + 1 + p0))), (1, vI p1), (2, vI p2), (3, vJ p3), (5, vI s1)]) (st' := [vI p2, vI s1]) [(.iload 5, 2), (.iload_n 2, 1)] ⟨dX1_findIn_3, dX1_findIn_5, rfl⟩ rfl ?_
      refine t_icmp_ge C 29 9 dX1_findIn_6 rfl rfl (fun hc3 => ?_) (fun hc3 => ?_)
      · replace hw := hw.1 hc3
        refine t_b C (pc' := 30) (L' := [(0, vA (some (o + 1 + p0))), (1, vI p1), (2, vI p2), (3, vJ p3), (5, vI s1)]) (st' := [vI (-1)]) [(.iconst (-1), 1)] ⟨dX1_findIn_29, rfl⟩ rfl ?_
        exact t_iret C dX1_findIn_30 ⟨_, rfl, hw⟩
      · replace hw := hw.2 hc3
        refine t_b C (pc' := 14) (L' := [(0, vA (some (o + 1 + p0))), (1, vI p1), (2, vI p2), (3, vJ p3), (5, vI s1)]) (st' := [vI (p1 + s1), vA (some (o + 1 + p0))]) [(.aload_n 0, 1), (.iload_n 1, 1), (.iload 5, 2), (.iadd, 1)] ⟨dX1_findIn_9, dX1_findIn_10, dX1_findIn_11, dX1_findIn_13, rfl⟩ rfl ?_
        refine t_lald C 15 dX1_findIn_14 rfl hw.1 ?_
        replace hw := hw.2
        refine t_b C (pc' := 17) (L' := [(0, vA (some (o + 1 + p0))), (1, vI p1), (2, vI p2), (3, vJ p3), (5, vI s1)]) (st' := [vI (lg_cmp (T2.l p0 (ni (p1 + s1))) p3)]) [(.lload_n 3, 1), (.lcmp, 1)] ⟨dX1_findIn_15, dX1_findIn_16, rfl⟩ rfl ?_
        refine t_if_ne C 23 20 dX1_findIn_17 rfl rfl (fun hc4 => ?_) (fun hc4 => ?_)
        · replace hw := hw.2 hc4
          refine t_b C (pc' := 26) (L' := [(5, vI (s1 + 1)), (0, vA (some (o + 1 + p0))), (1, vI p1), (2, vI p2), (3, vJ p3)]) (st' := []) [(.iinc 5 1, 3)] ⟨dX1_findIn_23, rfl⟩ rfl ?_
          refine t_goto C 3 dX1_findIn_26 rfl ?_
          refine t_sub C (L' := [(0, vA (some (o + 1 + p0))), (1, vI p1), (2, vI p2), (3, vJ p3), (5, vI (s1 + 1))]) [1, 2, 3, 4, 0] rfl ?_
          obtain ⟨m9, hm9, hw⟩ := hw
          exact ih1 m9 hm9 (s1 + 1) T2 hw
        · replace hw := hw.1 hc4
          refine t_b C (pc' := 22) (L' := [(0, vA (some (o + 1 + p0))), (1, vI p1), (2, vI p2), (3, vJ p3), (5, vI s1)]) (st' := [vI s1]) [(.iload 5, 2)] ⟨dX1_findIn_20, rfl⟩ rfl ?_
          exact t_iret C dX1_findIn_22 ⟨_, rfl, hw⟩
  exact key1 n1 0 T hI1
def wp_X1_give (p0 : Int32) (p1 : Int32) (T : TS) (Q : Int32 → TS → Prop) : Prop :=
  wp_X1_hasTree  T fun r2 T1 =>
  ((r2 = 0 →
  wp_X1_refuse 3 T1 fun r23 T22 =>
  Q r23 T22) ∧ (¬ r2 = 0 →
  wp_X1_symbolOf 0 T1 fun r5 T4 =>
  tix 1 40 (4 + r5) ∧
  wp_X1_isFrom p0 0 ((T4.a 1 (ni (4 + r5))) - 1) T4 fun r7 T6 =>
  ((r7 = 0 →
  wp_X1_refuse 4 T6 fun r21 T20 =>
  Q r21 T20) ∧ (¬ r7 = 0 →
  tix 25 40 p0 ∧
  wp_X1_beginsChange  T6 fun T9 =>
  ∀ m11 : Int32, m11 = (if (T6.a 25 (ni p0)) = p1 then 0 else 1) →
  tix 39 42 p0 ∧
  ∀ T13, T13 = T9.sa 39 (ni p0) (vp_nar .boolean m11) →
  tix 25 40 p0 ∧
  ∀ T14, T14 = T13.sa 25 (ni p0) p1 →
  wp_X1_counts  T14 fun T15 =>
  wp_X1_gives (T6.a 25 (ni p0)) T15 fun r18 T17 =>
  Q r18 T17))))
theorem hd_X1_give : yX1_give.cls = RX1 ∧ yX1_give.cls ≠ "java/lang/invoke/MethodHandle" ∧ yX1_give.cls ≠ "java/lang/invoke/VarHandle" ∧ (parseMethodDescriptor yX1_give.desc).map (fun d => d.parameters.length) = some 2 := by decide +kernel
theorem ok_X1_give {l : Launch} {D : va_G} {s0 : S0} (hG : G0 D s0) {o : Nat} {p0 : Int32} {p1 : Int32} {T : TS} {Q : Int32 → TS → Prop} (hw : wp_X1_give p0 p1 T Q) : OKt l D s0 o yX1_give cX1_give 4 (some .int) 6 143 [vA (some o), vI p0, vI p1] T (TI Q) := by
  refine t_met hG rfl rfl (L0 := [(0, vA (some o)), (1, vI p0), (2, vI p1)]) rfl rfl ?_
  intro h K C
  unfold wp_X1_give at hw
  refine t_b C (pc' := 1) (L' := [(0, vA (some o)), (1, vI p0), (2, vI p1)]) (st' := [vA (some o)]) [(.aload_n 0, 1)] ⟨dX1_give_0, rfl⟩ rfl ?_
  refine t_callVI C 4 [] [] dX1_give_1 rfl (ok_X1_hasTree hG hw) q2849 q2851 qs148 q159 q2852 hd_X1_hasTree ⟨rfl, rfl, rfl⟩ (fun r2 T1 hw => ?_)
  refine t_if_ne C 13 7 dX1_give_4 rfl rfl (fun hc3 => ?_) (fun hc3 => ?_)
  · replace hw := hw.2 hc3
    refine t_b C (pc' := 16) (L' := [(0, vA (some o)), (1, vI p0), (2, vI p1)]) (st' := [vA (some o), vI 0, vI p0]) [(.iload_n 1, 1), (.iconst 0, 1), (.aload_n 0, 1)] ⟨dX1_give_13, dX1_give_14, dX1_give_15, rfl⟩ rfl ?_
    refine t_gA C 201 1 19 dX1_give_16 rfl rfl rfl rfl rfl q2189 (fun _ _ _ => rfl) ?_
    refine t_b C (pc' := 22) (L' := [(0, vA (some o)), (1, vI p0), (2, vI p1)]) (st' := [vI 0, vA (some o), vI 4, vA (some (o + 1 + 1)), vI 0, vI p0]) [(.iconst 4, 1), (.aload_n 0, 1), (.iconst 0, 1)] ⟨dX1_give_19, dX1_give_20, dX1_give_21, rfl⟩ rfl ?_
    refine t_callVI C 25 [vI 0] [vI 4, vA (some (o + 1 + 1)), vI 0, vI p0] dX1_give_22 rfl (ok_X1_symbolOf hG hw) q2782 q2784 qs135 q159 q2785 hd_X1_symbolOf ⟨rfl, rfl, rfl⟩ (fun r5 T4 hw => ?_)
    refine t_b C (pc' := 26) (L' := [(0, vA (some o)), (1, vI p0), (2, vI p1)]) (st' := [vI (4 + r5), vA (some (o + 1 + 1)), vI 0, vI p0]) [(.iadd, 1)] ⟨dX1_give_25, rfl⟩ rfl ?_
    refine t_iald C 27 dX1_give_26 rfl hw.1 ?_
    replace hw := hw.2
    refine t_b C (pc' := 29) (L' := [(0, vA (some o)), (1, vI p0), (2, vI p1)]) (st' := [vI ((T4.a 1 (ni (4 + r5))) - 1), vI 0, vI p0]) [(.iconst 1, 1), (.isub, 1)] ⟨dX1_give_27, dX1_give_28, rfl⟩ rfl ?_
    refine t_callSI C 32 [vI p0, vI 0, vI ((T4.a 1 (ni (4 + r5))) - 1)] [] dX1_give_29 rfl (ok_X1_isFrom hG hw) q2431 q2432 q159 q2433 hd_X1_isFrom ⟨rfl, rfl, rfl⟩ (fun r7 T6 hw => ?_)
    refine t_if_ne C 41 35 dX1_give_32 rfl rfl (fun hc8 => ?_) (fun hc8 => ?_)
    · replace hw := hw.2 hc8
      refine t_b C (pc' := 42) (L' := [(0, vA (some o)), (1, vI p0), (2, vI p1)]) (st' := [vA (some o)]) [(.aload_n 0, 1)] ⟨dX1_give_41, rfl⟩ rfl ?_
      refine t_gA C 249 25 45 dX1_give_42 rfl rfl rfl rfl rfl q2237 (fun _ _ _ => rfl) ?_
      refine t_b C (pc' := 46) (L' := [(0, vA (some o)), (1, vI p0), (2, vI p1)]) (st' := [vI p0, vA (some (o + 1 + 25))]) [(.iload_n 1, 1)] ⟨dX1_give_45, rfl⟩ rfl ?_
      refine t_iald C 47 dX1_give_46 rfl hw.1 ?_
      replace hw := hw.2
      refine t_b C (pc' := 49) (L' := [(3, vI (T6.a 25 (ni p0))), (0, vA (some o)), (1, vI p0), (2, vI p1)]) (st' := [vA (some o)]) [(.istore_n 3, 1), (.aload_n 0, 1)] ⟨dX1_give_47, dX1_give_48, rfl⟩ rfl ?_
      refine t_callVV C 52 [] [] dX1_give_49 rfl (ok_X1_beginsChange hG hw) q2873 q2875 qs149 q159 q2876 hd_X1_beginsChange ⟨rfl, rfl, rfl⟩ (fun T9 hw => ?_)
      refine t_b C (pc' := 53) (L' := [(3, vI (T6.a 25 (ni p0))), (0, vA (some o)), (1, vI p0), (2, vI p1)]) (st' := [vA (some o)]) [(.aload_n 0, 1)] ⟨dX1_give_52, rfl⟩ rfl ?_
      refine t_gA C 269 39 56 dX1_give_53 rfl rfl rfl rfl rfl q2257 (fun _ _ _ => rfl) ?_
      refine t_b C (pc' := 59) (L' := [(3, vI (T6.a 25 (ni p0))), (0, vA (some o)), (1, vI p0), (2, vI p1)]) (st' := [vI p1, vI (T6.a 25 (ni p0)), vI p0, vA (some (o + 1 + 39))]) [(.iload_n 1, 1), (.iload_n 3, 1), (.iload_n 2, 1)] ⟨dX1_give_56, dX1_give_57, dX1_give_58, rfl⟩ rfl ?_
      have kj12 : ∀ (m11 : Int32), m11 = (if (T6.a 25 (ni p0)) = p1 then 0 else 1) → K 67 [(0, vA (some o)), (1, vI p0), (2, vI p1), (3, vI (T6.a 25 (ni p0)))] [vI m11, vI p0, vA (some (o + 1 + 39))] T9 := by
        intro m11 em11
        replace hw := hw m11 em11
        refine t_zast C 68 dX1_give_67 rfl hw.1 (fun T13 eT13 => ?_)
        replace hw := hw.2 T13 eT13
        refine t_b C (pc' := 69) (L' := [(0, vA (some o)), (1, vI p0), (2, vI p1), (3, vI (T6.a 25 (ni p0)))]) (st' := [vA (some o)]) [(.aload_n 0, 1)] ⟨dX1_give_68, rfl⟩ rfl ?_
        refine t_gA C 249 25 72 dX1_give_69 rfl rfl rfl rfl rfl q2237 (fun _ _ _ => rfl) ?_
        refine t_b C (pc' := 74) (L' := [(0, vA (some o)), (1, vI p0), (2, vI p1), (3, vI (T6.a 25 (ni p0)))]) (st' := [vI p1, vI p0, vA (some (o + 1 + 25))]) [(.iload_n 1, 1), (.iload_n 2, 1)] ⟨dX1_give_72, dX1_give_73, rfl⟩ rfl ?_
        refine t_iast C 75 dX1_give_74 rfl hw.1 (fun T14 eT14 => ?_)
        replace hw := hw.2 T14 eT14
        refine t_b C (pc' := 76) (L' := [(0, vA (some o)), (1, vI p0), (2, vI p1), (3, vI (T6.a 25 (ni p0)))]) (st' := [vA (some o)]) [(.aload_n 0, 1)] ⟨dX1_give_75, rfl⟩ rfl ?_
        refine t_callVV C 79 [] [] dX1_give_76 rfl (ok_X1_counts hG hw) q2881 q2883 qs151 q159 q2884 hd_X1_counts ⟨rfl, rfl, rfl⟩ (fun T15 hw => ?_)
        refine t_b C (pc' := 81) (L' := [(0, vA (some o)), (1, vI p0), (2, vI p1), (3, vI (T6.a 25 (ni p0)))]) (st' := [vI (T6.a 25 (ni p0)), vA (some o)]) [(.aload_n 0, 1), (.iload_n 3, 1)] ⟨dX1_give_79, dX1_give_80, rfl⟩ rfl ?_
        refine t_callVI C 84 [vI (T6.a 25 (ni p0))] [] dX1_give_81 rfl (ok_X1_gives hG hw) q2589 q2591 qs100 q159 q2592 hd_X1_gives ⟨rfl, rfl, rfl⟩ (fun r18 T17 hw => ?_)
        exact t_iret C dX1_give_84 ⟨_, rfl, hw⟩
      refine t_icmp_eq C 66 62 dX1_give_59 rfl rfl (fun hc19 => ?_) (fun hc19 => ?_)
      · refine t_b C (pc' := 67) (L' := [(3, vI (T6.a 25 (ni p0))), (0, vA (some o)), (1, vI p0), (2, vI p1)]) (st' := [vI 0, vI p0, vA (some (o + 1 + 39))]) [(.iconst 0, 1)] ⟨dX1_give_66, rfl⟩ rfl ?_
        refine t_sub C (L' := [(0, vA (some o)), (1, vI p0), (2, vI p1), (3, vI (T6.a 25 (ni p0)))]) [1, 2, 3, 0] rfl ?_
        exact kj12 _ ((if_pos hc19).symm)
      · refine t_b C (pc' := 63) (L' := [(3, vI (T6.a 25 (ni p0))), (0, vA (some o)), (1, vI p0), (2, vI p1)]) (st' := [vI 1, vI p0, vA (some (o + 1 + 39))]) [(.iconst 1, 1)] ⟨dX1_give_62, rfl⟩ rfl ?_
        refine t_goto C 67 dX1_give_63 rfl ?_
        refine t_sub C (L' := [(0, vA (some o)), (1, vI p0), (2, vI p1), (3, vI (T6.a 25 (ni p0)))]) [1, 2, 3, 0] rfl ?_
        exact kj12 _ ((if_neg hc19).symm)
    · replace hw := hw.1 hc8
      refine t_b C (pc' := 37) (L' := [(0, vA (some o)), (1, vI p0), (2, vI p1)]) (st' := [vI 4, vA (some o)]) [(.aload_n 0, 1), (.iconst 4, 1)] ⟨dX1_give_35, dX1_give_36, rfl⟩ rfl ?_
      refine t_callVI C 40 [vI 4] [] dX1_give_37 rfl (ok_X1_refuse hG hw) q2434 q2436 qs70 q159 q2437 hd_X1_refuse ⟨rfl, rfl, rfl⟩ (fun r21 T20 hw => ?_)
      exact t_iret C dX1_give_40 ⟨_, rfl, hw⟩
  · replace hw := hw.1 hc3
    refine t_b C (pc' := 9) (L' := [(0, vA (some o)), (1, vI p0), (2, vI p1)]) (st' := [vI 3, vA (some o)]) [(.aload_n 0, 1), (.iconst 3, 1)] ⟨dX1_give_7, dX1_give_8, rfl⟩ rfl ?_
    refine t_callVI C 12 [vI 3] [] dX1_give_9 rfl (ok_X1_refuse hG hw) q2434 q2436 qs70 q159 q2437 hd_X1_refuse ⟨rfl, rfl, rfl⟩ (fun r23 T22 hw => ?_)
    exact t_iret C dX1_give_12 ⟨_, rfl, hw⟩
def wp_X1_movesBehind (p0 : Int32) (p1 : Int32) (T : TS) (Q : TS → Prop) : Prop :=
  ∀ m1 : Int32, m1 = (if p1 ≤ 0 then 1 else (-1)) →
  ∀ m3 : Int32, m3 = (if p1 ≤ 0 then p0 else ((T.s 250) - 1)) →
  tlp (σ := Int32) (fun s5 T6 k5 =>
  ((((p1 = 0) ∨ ((s5 < p0) ∨ ((T6.s 250) ≤ s5))) →
  Q T6) ∧ (¬ ((p1 = 0) ∨ ((s5 < p0) ∨ ((T6.s 250) ≤ s5))) →
  tix 19 40 s5 ∧
  tix 19 40 (s5 + p1) ∧
  ∀ T9, T9 = T6.sa 19 (ni (s5 + p1)) (T6.a 19 (ni s5)) →
  tix 20 40 s5 ∧
  tix 20 40 (s5 + p1) ∧
  ∀ T10, T10 = T9.sa 20 (ni (s5 + p1)) (T9.a 20 (ni s5)) →
  tix 21 40 s5 ∧
  tjn (α := Int32) (fun J12 =>
  (((T10.a 21 (ni s5)) < p0 →
  tix 21 40 s5 ∧
  J12 (T10.a 21 (ni s5)) T10) ∧ (¬ (T10.a 21 (ni s5)) < p0 →
  tix 21 40 s5 ∧
  J12 ((T10.a 21 (ni s5)) + p1) T10))) (fun x14 T15 =>
  tix 21 40 (s5 + p1) ∧
  ∀ T16, T16 = T15.sa 21 (ni (s5 + p1)) x14 →
  tlp (σ := Int32) (fun s17 T18 k17 =>
  ((8 ≤ s17 →
  k5 (s5 + m1) T18) ∧ (¬ 8 ≤ s17 →
  tix 32 40 ((8 * s5) + s17) ∧
  tix 32 40 ((8 * (s5 + p1)) + s17) ∧
  ∀ T20, T20 = T18.sa 32 (ni ((8 * (s5 + p1)) + s17)) (T18.a 32 (ni ((8 * s5) + s17))) →
  tix 39 42 ((8 * s5) + s17) ∧
  tix 39 42 ((8 * (s5 + p1)) + s17) ∧
  ∀ T21, T21 = T20.sa 39 (ni ((8 * (s5 + p1)) + s17)) (vp_nar .boolean (T20.a 39 (ni ((8 * s5) + s17)))) →
  tix 40 42 ((8 * (s5 + p1)) + s17) ∧
  ∀ T22, T22 = T21.sa 40 (ni ((8 * (s5 + p1)) + s17)) (vp_nar .boolean 0) →
  k17 (s17 + 1) T22))) 0 T16)))) m3 T
theorem hd_X1_movesBehind : yX1_movesBehind.cls = RX1 ∧ yX1_movesBehind.cls ≠ "java/lang/invoke/MethodHandle" ∧ yX1_movesBehind.cls ≠ "java/lang/invoke/VarHandle" ∧ (parseMethodDescriptor yX1_movesBehind.desc).map (fun d => d.parameters.length) = some 2 := by decide +kernel
theorem ok_X1_movesBehind {l : Launch} {D : va_G} {s0 : S0} (hG : G0 D s0) {o : Nat} {p0 : Int32} {p1 : Int32} {T : TS} {Q : TS → Prop} (hw : wp_X1_movesBehind p0 p1 T Q) : OKt l D s0 o yX1_movesBehind cX1_movesBehind 6 none 0 0 [vA (some o), vI p0, vI p1] T (TV Q) := by
  refine t_met hG rfl rfl (L0 := [(0, vA (some o)), (1, vI p0), (2, vI p1)]) rfl rfl ?_
  intro h K C
  unfold wp_X1_movesBehind at hw
  refine t_b C (pc' := 1) (L' := [(0, vA (some o)), (1, vI p0), (2, vI p1)]) (st' := [vI p1]) [(.iload_n 2, 1)] ⟨dX1_movesBehind_0, rfl⟩ rfl ?_
  have kj2 : ∀ (m1 : Int32), m1 = (if p1 ≤ 0 then 1 else (-1)) → K 9 [(0, vA (some o)), (1, vI p0), (2, vI p1)] [vI m1] T := by
    intro m1 em1
    replace hw := hw m1 em1
    refine t_b C (pc' := 11) (L' := [(3, vI m1), (0, vA (some o)), (1, vI p0), (2, vI p1)]) (st' := [vI p1]) [(.istore_n 3, 1), (.iload_n 2, 1)] ⟨dX1_movesBehind_9, dX1_movesBehind_10, rfl⟩ rfl ?_
    have kj4 : ∀ (m3 : Int32), m3 = (if p1 ≤ 0 then p0 else ((T.s 250) - 1)) → K 24 [(0, vA (some o)), (1, vI p0), (2, vI p1), (3, vI m1)] [vI m3] T := by
      intro m3 em3
      replace hw := hw m3 em3
      refine t_b C (pc' := 26) (L' := [(4, vI m3), (0, vA (some o)), (1, vI p0), (2, vI p1), (3, vI m1)]) (st' := []) [(.istore 4, 2)] ⟨dX1_movesBehind_24, rfl⟩ rfl ?_
      obtain ⟨I5, ⟨n5, hI5⟩, hB5⟩ := tlp.out hw
      refine t_sub C (L' := [(0, vA (some o)), (1, vI p0), (2, vI p1), (3, vI m1), (4, vI m3)]) [1, 2, 3, 4, 0] rfl ?_
      have key5 : ∀ (n : Nat) (s5 : Int32) (T6 : TS), I5 n s5 T6 → K 26 [(0, vA (some o)), (1, vI p0), (2, vI p1), (3, vI m1), (4, vI s5)] [] T6 := by
        intro n
        induction n using Nat.strongRecOn with
        | ind n ih5 =>
          intro s5 T6 hI
          replace hw := hB5 n s5 T6 hI
          refine t_b C (pc' := 27) (L' := [(0, vA (some o)), (1, vI p0), (2, vI p1), (3, vI m1), (4, vI s5)]) (st' := [vI p1]) [(.iload_n 2, 1)] ⟨dX1_movesBehind_26, rfl⟩ rfl ?_
          have kx7 : ((p1 = 0) ∨ ((s5 < p0) ∨ ((T6.s 250) ≤ s5))) → K 213 [(0, vA (some o)), (1, vI p0), (2, vI p1), (3, vI m1), (4, vI s5)] [] T6 := by
            intro hcc
            replace hw := hw.1 hcc
            exact t_vret C dX1_movesBehind_213 ⟨rfl, hw⟩
          have ky8 : ¬ ((p1 = 0) ∨ ((s5 < p0) ∨ ((T6.s 250) ≤ s5))) → K 59 [(0, vA (some o)), (1, vI p0), (2, vI p1), (3, vI m1), (4, vI s5)] [vI s5, vA (some (o + 1 + 19)), vI (s5 + p1), vA (some (o + 1 + 19))] T6 := by
            intro hcc
            replace hw := hw.2 hcc
            refine t_iald C 60 dX1_movesBehind_59 rfl hw.1 ?_
            replace hw := hw.2
            refine t_iast C 61 dX1_movesBehind_60 rfl hw.1 (fun T9 eT9 => ?_)
            replace hw := hw.2 T9 eT9
            refine t_b C (pc' := 62) (L' := [(0, vA (some o)), (1, vI p0), (2, vI p1), (3, vI m1), (4, vI s5)]) (st' := [vA (some o)]) [(.aload_n 0, 1)] ⟨dX1_movesBehind_61, rfl⟩ rfl ?_
            refine t_gA C 244 20 65 dX1_movesBehind_62 rfl rfl rfl rfl rfl q2232 (fun _ _ _ => rfl) ?_
            refine t_b C (pc' := 70) (L' := [(0, vA (some o)), (1, vI p0), (2, vI p1), (3, vI m1), (4, vI s5)]) (st' := [vA (some o), vI (s5 + p1), vA (some (o + 1 + 20))]) [(.iload 4, 2), (.iload_n 2, 1), (.iadd, 1), (.aload_n 0, 1)] ⟨dX1_movesBehind_65, dX1_movesBehind_67, dX1_movesBehind_68, dX1_movesBehind_69, rfl⟩ rfl ?_
            refine t_gA C 244 20 73 dX1_movesBehind_70 rfl rfl rfl rfl rfl q2232 (fun _ _ _ => rfl) ?_
            refine t_b C (pc' := 75) (L' := [(0, vA (some o)), (1, vI p0), (2, vI p1), (3, vI m1), (4, vI s5)]) (st' := [vI s5, vA (some (o + 1 + 20)), vI (s5 + p1), vA (some (o + 1 + 20))]) [(.iload 4, 2)] ⟨dX1_movesBehind_73, rfl⟩ rfl ?_
            refine t_iald C 76 dX1_movesBehind_75 rfl hw.1 ?_
            replace hw := hw.2
            refine t_iast C 77 dX1_movesBehind_76 rfl hw.1 (fun T10 eT10 => ?_)
            replace hw := hw.2 T10 eT10
            refine t_b C (pc' := 78) (L' := [(0, vA (some o)), (1, vI p0), (2, vI p1), (3, vI m1), (4, vI s5)]) (st' := [vA (some o)]) [(.aload_n 0, 1)] ⟨dX1_movesBehind_77, rfl⟩ rfl ?_
            refine t_gA C 245 21 81 dX1_movesBehind_78 rfl rfl rfl rfl rfl q2233 (fun _ _ _ => rfl) ?_
            refine t_b C (pc' := 86) (L' := [(0, vA (some o)), (1, vI p0), (2, vI p1), (3, vI m1), (4, vI s5)]) (st' := [vA (some o), vI (s5 + p1), vA (some (o + 1 + 21))]) [(.iload 4, 2), (.iload_n 2, 1), (.iadd, 1), (.aload_n 0, 1)] ⟨dX1_movesBehind_81, dX1_movesBehind_83, dX1_movesBehind_84, dX1_movesBehind_85, rfl⟩ rfl ?_
            refine t_gA C 245 21 89 dX1_movesBehind_86 rfl rfl rfl rfl rfl q2233 (fun _ _ _ => rfl) ?_
            refine t_b C (pc' := 91) (L' := [(0, vA (some o)), (1, vI p0), (2, vI p1), (3, vI m1), (4, vI s5)]) (st' := [vI s5, vA (some (o + 1 + 21)), vI (s5 + p1), vA (some (o + 1 + 21))]) [(.iload 4, 2)] ⟨dX1_movesBehind_89, rfl⟩ rfl ?_
            refine t_iald C 92 dX1_movesBehind_91 rfl hw.1 ?_
            replace hw := hw.2
            refine t_b C (pc' := 93) (L' := [(0, vA (some o)), (1, vI p0), (2, vI p1), (3, vI m1), (4, vI s5)]) (st' := [vI p0, vI (T10.a 21 (ni s5)), vI (s5 + p1), vA (some (o + 1 + 21))]) [(.iload_n 1, 1)] ⟨dX1_movesBehind_92, rfl⟩ rfl ?_
            obtain ⟨J12, hw, hJ12⟩ := tjn.out hw
            have kj11 : ∀ (x14 : Int32) (T15 : TS), J12 x14 T15 → K 115 [(0, vA (some o)), (1, vI p0), (2, vI p1), (3, vI m1), (4, vI s5)] [vI x14, vI (s5 + p1), vA (some (o + 1 + 21))] T15 := by
              intro x14 T15 hj
              replace hw := hJ12 x14 T15 hj
              refine t_iast C 116 dX1_movesBehind_115 rfl hw.1 (fun T16 eT16 => ?_)
              replace hw := hw.2 T16 eT16
              refine t_b C (pc' := 119) (L' := [(5, vI 0), (0, vA (some o)), (1, vI p0), (2, vI p1), (3, vI m1), (4, vI s5)]) (st' := []) [(.iconst 0, 1), (.istore 5, 2)] ⟨dX1_movesBehind_116, dX1_movesBehind_117, rfl⟩ rfl ?_
              obtain ⟨I17, ⟨n17, hI17⟩, hB17⟩ := tlp.out hw
              refine t_sub C (L' := [(0, vA (some o)), (1, vI p0), (2, vI p1), (3, vI m1), (4, vI s5), (5, vI 0)]) [1, 2, 3, 4, 5, 0] rfl ?_
              have key17 : ∀ (n : Nat) (s17 : Int32) (T18 : TS), I17 n s17 T18 → K 119 [(0, vA (some o)), (1, vI p0), (2, vI p1), (3, vI m1), (4, vI s5), (5, vI s17)] [] T18 := by
                intro n
                induction n using Nat.strongRecOn with
                | ind n ih17 =>
                  intro s17 T18 hI
                  replace hw := hB17 n s17 T18 hI
                  refine t_b C (pc' := 123) (L' := [(0, vA (some o)), (1, vI p0), (2, vI p1), (3, vI m1), (4, vI s5), (5, vI s17)]) (st' := [vI 8, vI s17]) [(.iload 5, 2), (.bipush 8, 2)] ⟨dX1_movesBehind_119, dX1_movesBehind_121, rfl⟩ rfl ?_
                  refine t_icmp_ge C 204 126 dX1_movesBehind_123 rfl rfl (fun hc19 => ?_) (fun hc19 => ?_)
                  · replace hw := hw.1 hc19
                    refine t_b C (pc' := 210) (L' := [(4, vI (s5 + m1)), (0, vA (some o)), (1, vI p0), (2, vI p1), (3, vI m1), (5, vI s17)]) (st' := []) [(.iload 4, 2), (.iload_n 3, 1), (.iadd, 1), (.istore 4, 2)] ⟨dX1_movesBehind_204, dX1_movesBehind_206, dX1_movesBehind_207, dX1_movesBehind_208, rfl⟩ rfl ?_
                    refine t_goto C 26 dX1_movesBehind_210 rfl ?_
                    refine t_sub C (L' := [(0, vA (some o)), (1, vI p0), (2, vI p1), (3, vI m1), (4, vI (s5 + m1))]) [1, 2, 3, 4, 0] rfl ?_
                    obtain ⟨m9, hm9, hw⟩ := hw
                    exact ih5 m9 hm9 (s5 + m1) T18 hw
                  · replace hw := hw.2 hc19
                    refine t_b C (pc' := 127) (L' := [(0, vA (some o)), (1, vI p0), (2, vI p1), (3, vI m1), (4, vI s5), (5, vI s17)]) (st' := [vA (some o)]) [(.aload_n 0, 1)] ⟨dX1_movesBehind_126, rfl⟩ rfl ?_
                    refine t_gA C 262 32 130 dX1_movesBehind_127 rfl rfl rfl rfl rfl q2250 (fun _ _ _ => rfl) ?_
                    refine t_b C (pc' := 141) (L' := [(0, vA (some o)), (1, vI p0), (2, vI p1), (3, vI m1), (4, vI s5), (5, vI s17)]) (st' := [vA (some o), vI ((8 * (s5 + p1)) + s17), vA (some (o + 1 + 32))]) [(.bipush 8, 2), (.iload 4, 2), (.iload_n 2, 1), (.iadd, 1), (.imul, 1), (.iload 5, 2), (.iadd, 1), (.aload_n 0, 1)] ⟨dX1_movesBehind_130, dX1_movesBehind_132, dX1_movesBehind_134, dX1_movesBehind_135, dX1_movesBehind_136, dX1_movesBehind_137, dX1_movesBehind_139, dX1_movesBehind_140, rfl⟩ rfl ?_
                    refine t_gA C 262 32 144 dX1_movesBehind_141 rfl rfl rfl rfl rfl q2250 (fun _ _ _ => rfl) ?_
                    refine t_b C (pc' := 152) (L' := [(0, vA (some o)), (1, vI p0), (2, vI p1), (3, vI m1), (4, vI s5), (5, vI s17)]) (st' := [vI ((8 * s5) + s17), vA (some (o + 1 + 32)), vI ((8 * (s5 + p1)) + s17), vA (some (o + 1 + 32))]) [(.bipush 8, 2), (.iload 4, 2), (.imul, 1), (.iload 5, 2), (.iadd, 1)] ⟨dX1_movesBehind_144, dX1_movesBehind_146, dX1_movesBehind_148, dX1_movesBehind_149, dX1_movesBehind_151, rfl⟩ rfl ?_
                    refine t_iald C 153 dX1_movesBehind_152 rfl hw.1 ?_
                    replace hw := hw.2
                    refine t_iast C 154 dX1_movesBehind_153 rfl hw.1 (fun T20 eT20 => ?_)
                    replace hw := hw.2 T20 eT20
                    refine t_b C (pc' := 155) (L' := [(0, vA (some o)), (1, vI p0), (2, vI p1), (3, vI m1), (4, vI s5), (5, vI s17)]) (st' := [vA (some o)]) [(.aload_n 0, 1)] ⟨dX1_movesBehind_154, rfl⟩ rfl ?_
                    refine t_gA C 269 39 158 dX1_movesBehind_155 rfl rfl rfl rfl rfl q2257 (fun _ _ _ => rfl) ?_
                    refine t_b C (pc' := 169) (L' := [(0, vA (some o)), (1, vI p0), (2, vI p1), (3, vI m1), (4, vI s5), (5, vI s17)]) (st' := [vA (some o), vI ((8 * (s5 + p1)) + s17), vA (some (o + 1 + 39))]) [(.bipush 8, 2), (.iload 4, 2), (.iload_n 2, 1), (.iadd, 1), (.imul, 1), (.iload 5, 2), (.iadd, 1), (.aload_n 0, 1)] ⟨dX1_movesBehind_158, dX1_movesBehind_160, dX1_movesBehind_162, dX1_movesBehind_163, dX1_movesBehind_164, dX1_movesBehind_165, dX1_movesBehind_167, dX1_movesBehind_168, rfl⟩ rfl ?_
                    refine t_gA C 269 39 172 dX1_movesBehind_169 rfl rfl rfl rfl rfl q2257 (fun _ _ _ => rfl) ?_
                    refine t_b C (pc' := 180) (L' := [(0, vA (some o)), (1, vI p0), (2, vI p1), (3, vI m1), (4, vI s5), (5, vI s17)]) (st' := [vI ((8 * s5) + s17), vA (some (o + 1 + 39)), vI ((8 * (s5 + p1)) + s17), vA (some (o + 1 + 39))]) [(.bipush 8, 2), (.iload 4, 2), (.imul, 1), (.iload 5, 2), (.iadd, 1)] ⟨dX1_movesBehind_172, dX1_movesBehind_174, dX1_movesBehind_176, dX1_movesBehind_177, dX1_movesBehind_179, rfl⟩ rfl ?_
                    refine t_zald C 181 dX1_movesBehind_180 rfl hw.1 ?_
                    replace hw := hw.2
                    refine t_zast C 182 dX1_movesBehind_181 rfl hw.1 (fun T21 eT21 => ?_)
                    replace hw := hw.2 T21 eT21
                    refine t_b C (pc' := 183) (L' := [(0, vA (some o)), (1, vI p0), (2, vI p1), (3, vI m1), (4, vI s5), (5, vI s17)]) (st' := [vA (some o)]) [(.aload_n 0, 1)] ⟨dX1_movesBehind_182, rfl⟩ rfl ?_
                    refine t_gA C 270 40 186 dX1_movesBehind_183 rfl rfl rfl rfl rfl q2258 (fun _ _ _ => rfl) ?_
                    refine t_b C (pc' := 197) (L' := [(0, vA (some o)), (1, vI p0), (2, vI p1), (3, vI m1), (4, vI s5), (5, vI s17)]) (st' := [vI 0, vI ((8 * (s5 + p1)) + s17), vA (some (o + 1 + 40))]) [(.bipush 8, 2), (.iload 4, 2), (.iload_n 2, 1), (.iadd, 1), (.imul, 1), (.iload 5, 2), (.iadd, 1), (.iconst 0, 1)] ⟨dX1_movesBehind_186, dX1_movesBehind_188, dX1_movesBehind_190, dX1_movesBehind_191, dX1_movesBehind_192, dX1_movesBehind_193, dX1_movesBehind_195, dX1_movesBehind_196, rfl⟩ rfl ?_
                    refine t_zast C 198 dX1_movesBehind_197 rfl hw.1 (fun T22 eT22 => ?_)
                    replace hw := hw.2 T22 eT22
                    refine t_b C (pc' := 201) (L' := [(5, vI (s17 + 1)), (0, vA (some o)), (1, vI p0), (2, vI p1), (3, vI m1), (4, vI s5)]) (st' := []) [(.iinc 5 1, 3)] ⟨dX1_movesBehind_198, rfl⟩ rfl ?_
                    refine t_goto C 119 dX1_movesBehind_201 rfl ?_
                    refine t_sub C (L' := [(0, vA (some o)), (1, vI p0), (2, vI p1), (3, vI m1), (4, vI s5), (5, vI (s17 + 1))]) [1, 2, 3, 4, 5, 0] rfl ?_
                    obtain ⟨m9, hm9, hw⟩ := hw
                    exact ih17 m9 hm9 (s17 + 1) T22 hw
              exact key17 n17 0 T16 hI17
            refine t_icmp_lt C 108 96 dX1_movesBehind_93 rfl rfl (fun hc13 => ?_) (fun hc13 => ?_)
            · replace hw := hw.1 hc13
              refine t_b C (pc' := 109) (L' := [(0, vA (some o)), (1, vI p0), (2, vI p1), (3, vI m1), (4, vI s5)]) (st' := [vA (some o), vI (s5 + p1), vA (some (o + 1 + 21))]) [(.aload_n 0, 1)] ⟨dX1_movesBehind_108, rfl⟩ rfl ?_
              refine t_gA C 245 21 112 dX1_movesBehind_109 rfl rfl rfl rfl rfl q2233 (fun _ _ _ => rfl) ?_
              refine t_b C (pc' := 114) (L' := [(0, vA (some o)), (1, vI p0), (2, vI p1), (3, vI m1), (4, vI s5)]) (st' := [vI s5, vA (some (o + 1 + 21)), vI (s5 + p1), vA (some (o + 1 + 21))]) [(.iload 4, 2)] ⟨dX1_movesBehind_112, rfl⟩ rfl ?_
              refine t_iald C 115 dX1_movesBehind_114 rfl hw.1 ?_
              replace hw := hw.2
              refine t_sub C (L' := [(0, vA (some o)), (1, vI p0), (2, vI p1), (3, vI m1), (4, vI s5)]) [0, 1, 2, 3, 4] rfl ?_
              exact kj11 (T10.a 21 (ni s5)) T10 hw
            · replace hw := hw.2 hc13
              refine t_b C (pc' := 97) (L' := [(0, vA (some o)), (1, vI p0), (2, vI p1), (3, vI m1), (4, vI s5)]) (st' := [vA (some o), vI (s5 + p1), vA (some (o + 1 + 21))]) [(.aload_n 0, 1)] ⟨dX1_movesBehind_96, rfl⟩ rfl ?_
              refine t_gA C 245 21 100 dX1_movesBehind_97 rfl rfl rfl rfl rfl q2233 (fun _ _ _ => rfl) ?_
              refine t_b C (pc' := 102) (L' := [(0, vA (some o)), (1, vI p0), (2, vI p1), (3, vI m1), (4, vI s5)]) (st' := [vI s5, vA (some (o + 1 + 21)), vI (s5 + p1), vA (some (o + 1 + 21))]) [(.iload 4, 2)] ⟨dX1_movesBehind_100, rfl⟩ rfl ?_
              refine t_iald C 103 dX1_movesBehind_102 rfl hw.1 ?_
              replace hw := hw.2
              refine t_b C (pc' := 105) (L' := [(0, vA (some o)), (1, vI p0), (2, vI p1), (3, vI m1), (4, vI s5)]) (st' := [vI ((T10.a 21 (ni s5)) + p1), vI (s5 + p1), vA (some (o + 1 + 21))]) [(.iload_n 2, 1), (.iadd, 1)] ⟨dX1_movesBehind_103, dX1_movesBehind_104, rfl⟩ rfl ?_
              refine t_goto C 115 dX1_movesBehind_105 rfl ?_
              refine t_sub C (L' := [(0, vA (some o)), (1, vI p0), (2, vI p1), (3, vI m1), (4, vI s5)]) [0, 1, 2, 3, 4] rfl ?_
              exact kj11 ((T10.a 21 (ni s5)) + p1) T10 hw
          refine t_if_eq C 213 30 dX1_movesBehind_27 rfl rfl (fun hc23 => ?_) (fun hc23 => ?_)
          · exact kx7 (Or.inl hc23)
          · refine t_b C (pc' := 33) (L' := [(0, vA (some o)), (1, vI p0), (2, vI p1), (3, vI m1), (4, vI s5)]) (st' := [vI p0, vI s5]) [(.iload 4, 2), (.iload_n 1, 1)] ⟨dX1_movesBehind_30, dX1_movesBehind_32, rfl⟩ rfl ?_
            refine t_icmp_lt C 213 36 dX1_movesBehind_33 rfl rfl (fun hc24 => ?_) (fun hc24 => ?_)
            · exact kx7 (Or.inr (Or.inl hc24))
            · refine t_b C (pc' := 39) (L' := [(0, vA (some o)), (1, vI p0), (2, vI p1), (3, vI m1), (4, vI s5)]) (st' := [vA (some o), vI s5]) [(.iload 4, 2), (.aload_n 0, 1)] ⟨dX1_movesBehind_36, dX1_movesBehind_38, rfl⟩ rfl ?_
              refine t_gI C 250 42 dX1_movesBehind_39 rfl rfl rfl q2238 (fun _ _ _ => rfl) ?_
              refine t_icmp_ge C 213 45 dX1_movesBehind_42 rfl rfl (fun hc25 => ?_) (fun hc25 => ?_)
              · exact kx7 (Or.inr (Or.inr hc25))
              · refine t_b C (pc' := 46) (L' := [(0, vA (some o)), (1, vI p0), (2, vI p1), (3, vI m1), (4, vI s5)]) (st' := [vA (some o)]) [(.aload_n 0, 1)] ⟨dX1_movesBehind_45, rfl⟩ rfl ?_
                refine t_gA C 243 19 49 dX1_movesBehind_46 rfl rfl rfl rfl rfl q2231 (fun _ _ _ => rfl) ?_
                refine t_b C (pc' := 54) (L' := [(0, vA (some o)), (1, vI p0), (2, vI p1), (3, vI m1), (4, vI s5)]) (st' := [vA (some o), vI (s5 + p1), vA (some (o + 1 + 19))]) [(.iload 4, 2), (.iload_n 2, 1), (.iadd, 1), (.aload_n 0, 1)] ⟨dX1_movesBehind_49, dX1_movesBehind_51, dX1_movesBehind_52, dX1_movesBehind_53, rfl⟩ rfl ?_
                refine t_gA C 243 19 57 dX1_movesBehind_54 rfl rfl rfl rfl rfl q2231 (fun _ _ _ => rfl) ?_
                refine t_b C (pc' := 59) (L' := [(0, vA (some o)), (1, vI p0), (2, vI p1), (3, vI m1), (4, vI s5)]) (st' := [vI s5, vA (some (o + 1 + 19)), vI (s5 + p1), vA (some (o + 1 + 19))]) [(.iload 4, 2)] ⟨dX1_movesBehind_57, rfl⟩ rfl ?_
                exact ky8 (fun h0 => h0.elim hc23 (fun h0 => h0.elim hc24 hc25))
      exact key5 n5 m3 T hI5
    refine t_if_le C 23 14 dX1_movesBehind_11 rfl rfl (fun hc26 => ?_) (fun hc26 => ?_)
    · refine t_b C (pc' := 24) (L' := [(3, vI m1), (0, vA (some o)), (1, vI p0), (2, vI p1)]) (st' := [vI p0]) [(.iload_n 1, 1)] ⟨dX1_movesBehind_23, rfl⟩ rfl ?_
      refine t_sub C (L' := [(0, vA (some o)), (1, vI p0), (2, vI p1), (3, vI m1)]) [1, 2, 3, 0] rfl ?_
      exact kj4 _ ((if_pos hc26).symm)
    · refine t_b C (pc' := 15) (L' := [(3, vI m1), (0, vA (some o)), (1, vI p0), (2, vI p1)]) (st' := [vA (some o)]) [(.aload_n 0, 1)] ⟨dX1_movesBehind_14, rfl⟩ rfl ?_
      refine t_gI C 250 18 dX1_movesBehind_15 rfl rfl rfl q2238 (fun _ _ _ => rfl) ?_
      refine t_b C (pc' := 20) (L' := [(3, vI m1), (0, vA (some o)), (1, vI p0), (2, vI p1)]) (st' := [vI ((T.s 250) - 1)]) [(.iconst 1, 1), (.isub, 1)] ⟨dX1_movesBehind_18, dX1_movesBehind_19, rfl⟩ rfl ?_
      refine t_goto C 24 dX1_movesBehind_20 rfl ?_
      refine t_sub C (L' := [(0, vA (some o)), (1, vI p0), (2, vI p1), (3, vI m1)]) [1, 2, 3, 0] rfl ?_
      exact kj4 _ ((if_neg hc26).symm)
  refine t_if_le C 8 4 dX1_movesBehind_1 rfl rfl (fun hc27 => ?_) (fun hc27 => ?_)
  · refine t_b C (pc' := 9) (L' := [(0, vA (some o)), (1, vI p0), (2, vI p1)]) (st' := [vI 1]) [(.iconst 1, 1)] ⟨dX1_movesBehind_8, rfl⟩ rfl ?_
    refine t_sub C (L' := [(0, vA (some o)), (1, vI p0), (2, vI p1)]) [0, 1, 2] rfl ?_
    exact kj2 _ ((if_pos hc27).symm)
  · refine t_b C (pc' := 5) (L' := [(0, vA (some o)), (1, vI p0), (2, vI p1)]) (st' := [vI (-1)]) [(.iconst (-1), 1)] ⟨dX1_movesBehind_4, rfl⟩ rfl ?_
    refine t_goto C 9 dX1_movesBehind_5 rfl ?_
    refine t_sub C (L' := [(0, vA (some o)), (1, vI p0), (2, vI p1)]) [0, 1, 2] rfl ?_
    exact kj2 _ ((if_neg hc27).symm)
def wp_X1_spelt (p0 : Int32) (p1 : Int32) (p2 : Int32) (p3 : Int32) (p4 : Int32) (p5 : Int32) (T : TS) (Q : Int64 → TS → Prop) : Prop :=
  tjn (α := Int64) (fun J2 =>
  ((p2 ≤ 0 →
  J2 (((27 * ((Int32.toInt64 p0) - 96)) + (Int32.toInt64 p1)) - 96) T) ∧ (¬ p2 ≤ 0 →
  J2 (((27 * (((27 * ((Int32.toInt64 p0) - 96)) + (Int32.toInt64 p1)) - 96)) + (Int32.toInt64 p2)) - 96) T))) (fun x4 T5 =>
  tjn (α := Int64) (fun J7 =>
  ((p3 ≤ 0 →
  J7 x4 T5) ∧ (¬ p3 ≤ 0 →
  J7 (((27 * x4) + (Int32.toInt64 p3)) - 96) T5))) (fun x9 T10 =>
  ((p4 ≤ 0 →
  ((p5 ≤ 0 →
  Q x9 T10) ∧ (¬ p5 ≤ 0 →
  Q (((27 * x9) + (Int32.toInt64 p5)) - 96) T10))) ∧ (¬ p4 ≤ 0 →
  ((p5 ≤ 0 →
  Q (((27 * x9) + (Int32.toInt64 p4)) - 96) T10) ∧ (¬ p5 ≤ 0 →
  Q (((27 * (((27 * x9) + (Int32.toInt64 p4)) - 96)) + (Int32.toInt64 p5)) - 96) T10))))))
theorem hd_X1_spelt : yX1_spelt.cls ≠ "java/lang/invoke/MethodHandle" ∧ yX1_spelt.cls ≠ "java/lang/invoke/VarHandle" ∧ (parseMethodDescriptor yX1_spelt.desc).map (fun d => d.parameters.length) = some 6 := by decide +kernel
theorem ok_X1_spelt {l : Launch} {D : va_G} {s0 : S0} (hG : G0 D s0) {o : Nat} {p0 : Int32} {p1 : Int32} {p2 : Int32} {p3 : Int32} {p4 : Int32} {p5 : Int32} {T : TS} {Q : Int64 → TS → Prop} (hw : wp_X1_spelt p0 p1 p2 p3 p4 p5 T Q) : OKt l D s0 o yX1_spelt cX1_spelt 8 (some .long) 0 0 [vI p0, vI p1, vI p2, vI p3, vI p4, vI p5] T (TJ Q) := by
  refine t_met hG rfl rfl (L0 := [(0, vI p0), (1, vI p1), (2, vI p2), (3, vI p3), (4, vI p4), (5, vI p5)]) rfl rfl ?_
  intro h K C
  unfold wp_X1_spelt at hw
  refine t_ldc2 C (v := 27) 3 dX1_spelt_0 rfl q2453 ?_
  refine t_b C (pc' := 5) (L' := [(0, vI p0), (1, vI p1), (2, vI p2), (3, vI p3), (4, vI p4), (5, vI p5)]) (st' := [vJ (Int32.toInt64 p0), vJ 27]) [(.iload_n 0, 1), (.i2l, 1)] ⟨dX1_spelt_3, dX1_spelt_4, rfl⟩ rfl ?_
  refine t_ldc2 C (v := 96) 8 dX1_spelt_5 rfl q2454 ?_
  refine t_b C (pc' := 13) (L' := [(0, vI p0), (1, vI p1), (2, vI p2), (3, vI p3), (4, vI p4), (5, vI p5)]) (st' := [vJ ((27 * ((Int32.toInt64 p0) - 96)) + (Int32.toInt64 p1))]) [(.lsub, 1), (.lmul, 1), (.iload_n 1, 1), (.i2l, 1), (.ladd, 1)] ⟨dX1_spelt_8, dX1_spelt_9, dX1_spelt_10, dX1_spelt_11, dX1_spelt_12, rfl⟩ rfl ?_
  refine t_ldc2 C (v := 96) 16 dX1_spelt_13 rfl q2454 ?_
  refine t_b C (pc' := 20) (L' := [(6, vJ (((27 * ((Int32.toInt64 p0) - 96)) + (Int32.toInt64 p1)) - 96)), (0, vI p0), (1, vI p1), (2, vI p2), (3, vI p3), (4, vI p4), (5, vI p5)]) (st' := [vI p2]) [(.lsub, 1), (.lstore 6, 2), (.iload_n 2, 1)] ⟨dX1_spelt_16, dX1_spelt_17, dX1_spelt_19, rfl⟩ rfl ?_
  obtain ⟨J2, hw, hJ2⟩ := tjn.out hw
  have kj1 : ∀ (x4 : Int64) (T5 : TS), J2 x4 T5 → K 38 [(3, vI p3), (4, vI p4), (5, vI p5), (6, vJ x4)] [] T5 := by
    intro x4 T5 hj
    replace hw := hJ2 x4 T5 hj
    refine t_b C (pc' := 39) (L' := [(3, vI p3), (4, vI p4), (5, vI p5), (6, vJ x4)]) (st' := [vI p3]) [(.iload_n 3, 1)] ⟨dX1_spelt_38, rfl⟩ rfl ?_
    obtain ⟨J7, hw, hJ7⟩ := tjn.out hw
    have kj6 : ∀ (x9 : Int64) (T10 : TS), J7 x9 T10 → K 57 [(4, vI p4), (5, vI p5), (6, vJ x9)] [] T10 := by
      intro x9 T10 hj
      replace hw := hJ7 x9 T10 hj
      refine t_b C (pc' := 59) (L' := [(4, vI p4), (5, vI p5), (6, vJ x9)]) (st' := [vI p4]) [(.iload 4, 2)] ⟨dX1_spelt_57, rfl⟩ rfl ?_
      refine t_if_le C 78 62 dX1_spelt_59 rfl rfl (fun hc11 => ?_) (fun hc11 => ?_)
      · replace hw := hw.1 hc11
        refine t_b C (pc' := 80) (L' := [(4, vI p4), (5, vI p5), (6, vJ x9)]) (st' := [vI p5]) [(.iload 5, 2)] ⟨dX1_spelt_78, rfl⟩ rfl ?_
        refine t_if_le C 99 83 dX1_spelt_80 rfl rfl (fun hc12 => ?_) (fun hc12 => ?_)
        · replace hw := hw.1 hc12
          refine t_b C (pc' := 101) (L' := [(4, vI p4), (5, vI p5), (6, vJ x9)]) (st' := [vJ x9]) [(.lload 6, 2)] ⟨dX1_spelt_99, rfl⟩ rfl ?_
          exact t_lret C dX1_spelt_101 ⟨_, rfl, hw⟩
        · replace hw := hw.2 hc12
          refine t_ldc2 C (v := 27) 86 dX1_spelt_83 rfl q2453 ?_
          refine t_b C (pc' := 93) (L' := [(4, vI p4), (5, vI p5), (6, vJ x9)]) (st' := [vJ ((27 * x9) + (Int32.toInt64 p5))]) [(.lload 6, 2), (.lmul, 1), (.iload 5, 2), (.i2l, 1), (.ladd, 1)] ⟨dX1_spelt_86, dX1_spelt_88, dX1_spelt_89, dX1_spelt_91, dX1_spelt_92, rfl⟩ rfl ?_
          refine t_ldc2 C (v := 96) 96 dX1_spelt_93 rfl q2454 ?_
          refine t_b C (pc' := 101) (L' := [(6, vJ (((27 * x9) + (Int32.toInt64 p5)) - 96)), (4, vI p4), (5, vI p5)]) (st' := [vJ (((27 * x9) + (Int32.toInt64 p5)) - 96)]) [(.lsub, 1), (.lstore 6, 2), (.lload 6, 2)] ⟨dX1_spelt_96, dX1_spelt_97, dX1_spelt_99, rfl⟩ rfl ?_
          exact t_lret C dX1_spelt_101 ⟨_, rfl, hw⟩
      · replace hw := hw.2 hc11
        refine t_ldc2 C (v := 27) 65 dX1_spelt_62 rfl q2453 ?_
        refine t_b C (pc' := 72) (L' := [(4, vI p4), (5, vI p5), (6, vJ x9)]) (st' := [vJ ((27 * x9) + (Int32.toInt64 p4))]) [(.lload 6, 2), (.lmul, 1), (.iload 4, 2), (.i2l, 1), (.ladd, 1)] ⟨dX1_spelt_65, dX1_spelt_67, dX1_spelt_68, dX1_spelt_70, dX1_spelt_71, rfl⟩ rfl ?_
        refine t_ldc2 C (v := 96) 75 dX1_spelt_72 rfl q2454 ?_
        refine t_b C (pc' := 80) (L' := [(6, vJ (((27 * x9) + (Int32.toInt64 p4)) - 96)), (4, vI p4), (5, vI p5)]) (st' := [vI p5]) [(.lsub, 1), (.lstore 6, 2), (.iload 5, 2)] ⟨dX1_spelt_75, dX1_spelt_76, dX1_spelt_78, rfl⟩ rfl ?_
        refine t_if_le C 99 83 dX1_spelt_80 rfl rfl (fun hc13 => ?_) (fun hc13 => ?_)
        · replace hw := hw.1 hc13
          refine t_b C (pc' := 101) (L' := [(6, vJ (((27 * x9) + (Int32.toInt64 p4)) - 96)), (4, vI p4), (5, vI p5)]) (st' := [vJ (((27 * x9) + (Int32.toInt64 p4)) - 96)]) [(.lload 6, 2)] ⟨dX1_spelt_99, rfl⟩ rfl ?_
          exact t_lret C dX1_spelt_101 ⟨_, rfl, hw⟩
        · replace hw := hw.2 hc13
          refine t_ldc2 C (v := 27) 86 dX1_spelt_83 rfl q2453 ?_
          refine t_b C (pc' := 93) (L' := [(6, vJ (((27 * x9) + (Int32.toInt64 p4)) - 96)), (4, vI p4), (5, vI p5)]) (st' := [vJ ((27 * (((27 * x9) + (Int32.toInt64 p4)) - 96)) + (Int32.toInt64 p5))]) [(.lload 6, 2), (.lmul, 1), (.iload 5, 2), (.i2l, 1), (.ladd, 1)] ⟨dX1_spelt_86, dX1_spelt_88, dX1_spelt_89, dX1_spelt_91, dX1_spelt_92, rfl⟩ rfl ?_
          refine t_ldc2 C (v := 96) 96 dX1_spelt_93 rfl q2454 ?_
          refine t_b C (pc' := 101) (L' := [(6, vJ (((27 * (((27 * x9) + (Int32.toInt64 p4)) - 96)) + (Int32.toInt64 p5)) - 96)), (4, vI p4), (5, vI p5)]) (st' := [vJ (((27 * (((27 * x9) + (Int32.toInt64 p4)) - 96)) + (Int32.toInt64 p5)) - 96)]) [(.lsub, 1), (.lstore 6, 2), (.lload 6, 2)] ⟨dX1_spelt_96, dX1_spelt_97, dX1_spelt_99, rfl⟩ rfl ?_
          exact t_lret C dX1_spelt_101 ⟨_, rfl, hw⟩
    refine t_if_le C 57 42 dX1_spelt_39 rfl rfl (fun hc8 => ?_) (fun hc8 => ?_)
    · replace hw := hw.1 hc8
      refine t_sub C (L' := [(4, vI p4), (5, vI p5), (6, vJ x4)]) [1, 2, 3] rfl ?_
      exact kj6 x4 T5 hw
    · replace hw := hw.2 hc8
      refine t_ldc2 C (v := 27) 45 dX1_spelt_42 rfl q2453 ?_
      refine t_b C (pc' := 51) (L' := [(3, vI p3), (4, vI p4), (5, vI p5), (6, vJ x4)]) (st' := [vJ ((27 * x4) + (Int32.toInt64 p3))]) [(.lload 6, 2), (.lmul, 1), (.iload_n 3, 1), (.i2l, 1), (.ladd, 1)] ⟨dX1_spelt_45, dX1_spelt_47, dX1_spelt_48, dX1_spelt_49, dX1_spelt_50, rfl⟩ rfl ?_
      refine t_ldc2 C (v := 96) 54 dX1_spelt_51 rfl q2454 ?_
      refine t_b C (pc' := 57) (L' := [(6, vJ (((27 * x4) + (Int32.toInt64 p3)) - 96)), (3, vI p3), (4, vI p4), (5, vI p5)]) (st' := []) [(.lsub, 1), (.lstore 6, 2)] ⟨dX1_spelt_54, dX1_spelt_55, rfl⟩ rfl ?_
      refine t_sub C (L' := [(4, vI p4), (5, vI p5), (6, vJ (((27 * x4) + (Int32.toInt64 p3)) - 96))]) [2, 3, 0] rfl ?_
      exact kj6 (((27 * x4) + (Int32.toInt64 p3)) - 96) T5 hw
  refine t_if_le C 38 23 dX1_spelt_20 rfl rfl (fun hc3 => ?_) (fun hc3 => ?_)
  · replace hw := hw.1 hc3
    refine t_sub C (L' := [(3, vI p3), (4, vI p4), (5, vI p5), (6, vJ (((27 * ((Int32.toInt64 p0) - 96)) + (Int32.toInt64 p1)) - 96))]) [4, 5, 6, 0] rfl ?_
    exact kj1 (((27 * ((Int32.toInt64 p0) - 96)) + (Int32.toInt64 p1)) - 96) T hw
  · replace hw := hw.2 hc3
    refine t_ldc2 C (v := 27) 26 dX1_spelt_23 rfl q2453 ?_
    refine t_b C (pc' := 32) (L' := [(6, vJ (((27 * ((Int32.toInt64 p0) - 96)) + (Int32.toInt64 p1)) - 96)), (0, vI p0), (1, vI p1), (2, vI p2), (3, vI p3), (4, vI p4), (5, vI p5)]) (st' := [vJ ((27 * (((27 * ((Int32.toInt64 p0) - 96)) + (Int32.toInt64 p1)) - 96)) + (Int32.toInt64 p2))]) [(.lload 6, 2), (.lmul, 1), (.iload_n 2, 1), (.i2l, 1), (.ladd, 1)] ⟨dX1_spelt_26, dX1_spelt_28, dX1_spelt_29, dX1_spelt_30, dX1_spelt_31, rfl⟩ rfl ?_
    refine t_ldc2 C (v := 96) 35 dX1_spelt_32 rfl q2454 ?_
    refine t_b C (pc' := 38) (L' := [(6, vJ (((27 * (((27 * ((Int32.toInt64 p0) - 96)) + (Int32.toInt64 p1)) - 96)) + (Int32.toInt64 p2)) - 96)), (0, vI p0), (1, vI p1), (2, vI p2), (3, vI p3), (4, vI p4), (5, vI p5)]) (st' := []) [(.lsub, 1), (.lstore 6, 2)] ⟨dX1_spelt_35, dX1_spelt_36, rfl⟩ rfl ?_
    refine t_sub C (L' := [(3, vI p3), (4, vI p4), (5, vI p5), (6, vJ (((27 * (((27 * ((Int32.toInt64 p0) - 96)) + (Int32.toInt64 p1)) - 96)) + (Int32.toInt64 p2)) - 96))]) [4, 5, 6, 0] rfl ?_
    exact kj1 (((27 * (((27 * ((Int32.toInt64 p0) - 96)) + (Int32.toInt64 p1)) - 96)) + (Int32.toInt64 p2)) - 96) T hw
def wp_X1_wordOf (p0 : Int32) (T : TS) (Q : Int64 → TS → Prop) : Prop :=
  (((p0 = 0) →
  wp_X1_spelt 115 121 109 98 111 108 T fun r3 T2 =>
  Q r3 T2) ∧ (¬ (p0 = 0) →
  (((p0 = 1) →
  wp_X1_spelt 112 114 111 100 0 0 T fun r7 T6 =>
  Q r7 T6) ∧ (¬ (p0 = 1) →
  (((p0 = 2) →
  wp_X1_spelt 114 117 108 101 0 0 T fun r11 T10 =>
  Q r11 T10) ∧ (¬ (p0 = 2) →
  (((p0 = 3) →
  wp_X1_spelt 105 110 0 0 0 0 T fun r15 T14 =>
  Q r15 T14) ∧ (¬ (p0 = 3) →
  (((p0 = 4) →
  wp_X1_spelt 111 117 116 0 0 0 T fun r19 T18 =>
  Q r19 T18) ∧ (¬ (p0 = 4) →
  (((p0 = 5) →
  wp_X1_spelt 110 117 109 0 0 0 T fun r23 T22 =>
  Q r23 T22) ∧ (¬ (p0 = 5) →
  (((p0 = 6) →
  wp_X1_spelt 109 97 120 0 0 0 T fun r27 T26 =>
  Q r27 T26) ∧ (¬ (p0 = 6) →
  (((p0 = 7) →
  wp_X1_spelt 109 105 110 0 0 0 T fun r31 T30 =>
  Q r31 T30) ∧ (¬ (p0 = 7) →
  wp_X1_spelt 105 102 0 0 0 0 T fun r34 T33 =>
  Q r34 T33))))))))))))))))
theorem hd_X1_wordOf : yX1_wordOf.cls ≠ "java/lang/invoke/MethodHandle" ∧ yX1_wordOf.cls ≠ "java/lang/invoke/VarHandle" ∧ (parseMethodDescriptor yX1_wordOf.desc).map (fun d => d.parameters.length) = some 1 := by decide +kernel
theorem ok_X1_wordOf {l : Launch} {D : va_G} {s0 : S0} (hG : G0 D s0) {o : Nat} {p0 : Int32} {T : TS} {Q : Int64 → TS → Prop} (hw : wp_X1_wordOf p0 T Q) : OKt l D s0 o yX1_wordOf cX1_wordOf 1 (some .long) 1 27 [vI p0] T (TJ Q) := by
  refine t_met hG rfl rfl (L0 := [(0, vI p0)]) rfl rfl ?_
  intro h K C
  unfold wp_X1_wordOf at hw
  refine t_b C (pc' := 1) (L' := [(0, vI p0)]) (st' := [vI p0]) [(.iload_n 0, 1)] ⟨dX1_wordOf_0, rfl⟩ rfl ?_
  have ks1 : (p0 = 0) → K 48 [(0, vI p0)] [] T := by
    intro hcc
    replace hw := hw.1 hcc
    refine t_b C (pc' := 60) (L' := [(0, vI p0)]) (st' := [vI 108, vI 111, vI 98, vI 109, vI 121, vI 115]) [(.bipush 115, 2), (.bipush 121, 2), (.bipush 109, 2), (.bipush 98, 2), (.bipush 111, 2), (.bipush 108, 2)] ⟨dX1_wordOf_48, dX1_wordOf_50, dX1_wordOf_52, dX1_wordOf_54, dX1_wordOf_56, dX1_wordOf_58, rfl⟩ rfl ?_
    refine t_callSJ C 63 [vI 115, vI 121, vI 109, vI 98, vI 111, vI 108] [] dX1_wordOf_60 rfl (ok_X1_spelt hG hw) q2472 q2473 q159 q2474 hd_X1_spelt ⟨rfl, rfl, rfl⟩ (fun r3 T2 hw => ?_)
    exact t_lret C dX1_wordOf_63 ⟨_, rfl, hw⟩
  by_cases hs4 : (p0 = 0)
  · refine t_tabIn C (v := 0) 48 dX1_wordOf_1 hs4 rfl rfl rfl rfl ?_
    exact ks1 hs4
  replace hw := hw.2 hs4
  have ks5 : (p0 = 1) → K 64 [(0, vI p0)] [] T := by
    intro hcc
    replace hw := hw.1 hcc
    refine t_b C (pc' := 74) (L' := [(0, vI p0)]) (st' := [vI 0, vI 0, vI 100, vI 111, vI 114, vI 112]) [(.bipush 112, 2), (.bipush 114, 2), (.bipush 111, 2), (.bipush 100, 2), (.iconst 0, 1), (.iconst 0, 1)] ⟨dX1_wordOf_64, dX1_wordOf_66, dX1_wordOf_68, dX1_wordOf_70, dX1_wordOf_72, dX1_wordOf_73, rfl⟩ rfl ?_
    refine t_callSJ C 77 [vI 112, vI 114, vI 111, vI 100, vI 0, vI 0] [] dX1_wordOf_74 rfl (ok_X1_spelt hG hw) q2472 q2473 q159 q2474 hd_X1_spelt ⟨rfl, rfl, rfl⟩ (fun r7 T6 hw => ?_)
    exact t_lret C dX1_wordOf_77 ⟨_, rfl, hw⟩
  by_cases hs8 : (p0 = 1)
  · refine t_tabIn C (v := 1) 64 dX1_wordOf_1 hs8 rfl rfl rfl rfl ?_
    exact ks5 hs8
  replace hw := hw.2 hs8
  have ks9 : (p0 = 2) → K 78 [(0, vI p0)] [] T := by
    intro hcc
    replace hw := hw.1 hcc
    refine t_b C (pc' := 88) (L' := [(0, vI p0)]) (st' := [vI 0, vI 0, vI 101, vI 108, vI 117, vI 114]) [(.bipush 114, 2), (.bipush 117, 2), (.bipush 108, 2), (.bipush 101, 2), (.iconst 0, 1), (.iconst 0, 1)] ⟨dX1_wordOf_78, dX1_wordOf_80, dX1_wordOf_82, dX1_wordOf_84, dX1_wordOf_86, dX1_wordOf_87, rfl⟩ rfl ?_
    refine t_callSJ C 91 [vI 114, vI 117, vI 108, vI 101, vI 0, vI 0] [] dX1_wordOf_88 rfl (ok_X1_spelt hG hw) q2472 q2473 q159 q2474 hd_X1_spelt ⟨rfl, rfl, rfl⟩ (fun r11 T10 hw => ?_)
    exact t_lret C dX1_wordOf_91 ⟨_, rfl, hw⟩
  by_cases hs12 : (p0 = 2)
  · refine t_tabIn C (v := 2) 78 dX1_wordOf_1 hs12 rfl rfl rfl rfl ?_
    exact ks9 hs12
  replace hw := hw.2 hs12
  have ks13 : (p0 = 3) → K 92 [(0, vI p0)] [] T := by
    intro hcc
    replace hw := hw.1 hcc
    refine t_b C (pc' := 100) (L' := [(0, vI p0)]) (st' := [vI 0, vI 0, vI 0, vI 0, vI 110, vI 105]) [(.bipush 105, 2), (.bipush 110, 2), (.iconst 0, 1), (.iconst 0, 1), (.iconst 0, 1), (.iconst 0, 1)] ⟨dX1_wordOf_92, dX1_wordOf_94, dX1_wordOf_96, dX1_wordOf_97, dX1_wordOf_98, dX1_wordOf_99, rfl⟩ rfl ?_
    refine t_callSJ C 103 [vI 105, vI 110, vI 0, vI 0, vI 0, vI 0] [] dX1_wordOf_100 rfl (ok_X1_spelt hG hw) q2472 q2473 q159 q2474 hd_X1_spelt ⟨rfl, rfl, rfl⟩ (fun r15 T14 hw => ?_)
    exact t_lret C dX1_wordOf_103 ⟨_, rfl, hw⟩
  by_cases hs16 : (p0 = 3)
  · refine t_tabIn C (v := 3) 92 dX1_wordOf_1 hs16 rfl rfl rfl rfl ?_
    exact ks13 hs16
  replace hw := hw.2 hs16
  have ks17 : (p0 = 4) → K 104 [(0, vI p0)] [] T := by
    intro hcc
    replace hw := hw.1 hcc
    refine t_b C (pc' := 113) (L' := [(0, vI p0)]) (st' := [vI 0, vI 0, vI 0, vI 116, vI 117, vI 111]) [(.bipush 111, 2), (.bipush 117, 2), (.bipush 116, 2), (.iconst 0, 1), (.iconst 0, 1), (.iconst 0, 1)] ⟨dX1_wordOf_104, dX1_wordOf_106, dX1_wordOf_108, dX1_wordOf_110, dX1_wordOf_111, dX1_wordOf_112, rfl⟩ rfl ?_
    refine t_callSJ C 116 [vI 111, vI 117, vI 116, vI 0, vI 0, vI 0] [] dX1_wordOf_113 rfl (ok_X1_spelt hG hw) q2472 q2473 q159 q2474 hd_X1_spelt ⟨rfl, rfl, rfl⟩ (fun r19 T18 hw => ?_)
    exact t_lret C dX1_wordOf_116 ⟨_, rfl, hw⟩
  by_cases hs20 : (p0 = 4)
  · refine t_tabIn C (v := 4) 104 dX1_wordOf_1 hs20 rfl rfl rfl rfl ?_
    exact ks17 hs20
  replace hw := hw.2 hs20
  have ks21 : (p0 = 5) → K 117 [(0, vI p0)] [] T := by
    intro hcc
    replace hw := hw.1 hcc
    refine t_b C (pc' := 126) (L' := [(0, vI p0)]) (st' := [vI 0, vI 0, vI 0, vI 109, vI 117, vI 110]) [(.bipush 110, 2), (.bipush 117, 2), (.bipush 109, 2), (.iconst 0, 1), (.iconst 0, 1), (.iconst 0, 1)] ⟨dX1_wordOf_117, dX1_wordOf_119, dX1_wordOf_121, dX1_wordOf_123, dX1_wordOf_124, dX1_wordOf_125, rfl⟩ rfl ?_
    refine t_callSJ C 129 [vI 110, vI 117, vI 109, vI 0, vI 0, vI 0] [] dX1_wordOf_126 rfl (ok_X1_spelt hG hw) q2472 q2473 q159 q2474 hd_X1_spelt ⟨rfl, rfl, rfl⟩ (fun r23 T22 hw => ?_)
    exact t_lret C dX1_wordOf_129 ⟨_, rfl, hw⟩
  by_cases hs24 : (p0 = 5)
  · refine t_tabIn C (v := 5) 117 dX1_wordOf_1 hs24 rfl rfl rfl rfl ?_
    exact ks21 hs24
  replace hw := hw.2 hs24
  have ks25 : (p0 = 6) → K 130 [(0, vI p0)] [] T := by
    intro hcc
    replace hw := hw.1 hcc
    refine t_b C (pc' := 139) (L' := [(0, vI p0)]) (st' := [vI 0, vI 0, vI 0, vI 120, vI 97, vI 109]) [(.bipush 109, 2), (.bipush 97, 2), (.bipush 120, 2), (.iconst 0, 1), (.iconst 0, 1), (.iconst 0, 1)] ⟨dX1_wordOf_130, dX1_wordOf_132, dX1_wordOf_134, dX1_wordOf_136, dX1_wordOf_137, dX1_wordOf_138, rfl⟩ rfl ?_
    refine t_callSJ C 142 [vI 109, vI 97, vI 120, vI 0, vI 0, vI 0] [] dX1_wordOf_139 rfl (ok_X1_spelt hG hw) q2472 q2473 q159 q2474 hd_X1_spelt ⟨rfl, rfl, rfl⟩ (fun r27 T26 hw => ?_)
    exact t_lret C dX1_wordOf_142 ⟨_, rfl, hw⟩
  by_cases hs28 : (p0 = 6)
  · refine t_tabIn C (v := 6) 130 dX1_wordOf_1 hs28 rfl rfl rfl rfl ?_
    exact ks25 hs28
  replace hw := hw.2 hs28
  have ks29 : (p0 = 7) → K 143 [(0, vI p0)] [] T := by
    intro hcc
    replace hw := hw.1 hcc
    refine t_b C (pc' := 152) (L' := [(0, vI p0)]) (st' := [vI 0, vI 0, vI 0, vI 110, vI 105, vI 109]) [(.bipush 109, 2), (.bipush 105, 2), (.bipush 110, 2), (.iconst 0, 1), (.iconst 0, 1), (.iconst 0, 1)] ⟨dX1_wordOf_143, dX1_wordOf_145, dX1_wordOf_147, dX1_wordOf_149, dX1_wordOf_150, dX1_wordOf_151, rfl⟩ rfl ?_
    refine t_callSJ C 155 [vI 109, vI 105, vI 110, vI 0, vI 0, vI 0] [] dX1_wordOf_152 rfl (ok_X1_spelt hG hw) q2472 q2473 q159 q2474 hd_X1_spelt ⟨rfl, rfl, rfl⟩ (fun r31 T30 hw => ?_)
    exact t_lret C dX1_wordOf_155 ⟨_, rfl, hw⟩
  by_cases hs32 : (p0 = 7)
  · refine t_tabIn C (v := 7) 143 dX1_wordOf_1 hs32 rfl rfl rfl rfl ?_
    exact ks29 hs32
  replace hw := hw.2 hs32
  have ht0 : ¬ (p0).toInt = 0 := lv_neT hs4 (by decide)
  have ht1 : ¬ (p0).toInt = 1 := lv_neT hs8 (by decide)
  have ht2 : ¬ (p0).toInt = 2 := lv_neT hs12 (by decide)
  have ht3 : ¬ (p0).toInt = 3 := lv_neT hs16 (by decide)
  have ht4 : ¬ (p0).toInt = 4 := lv_neT hs20 (by decide)
  have ht5 : ¬ (p0).toInt = 5 := lv_neT hs24 (by decide)
  have ht6 : ¬ (p0).toInt = 6 := lv_neT hs28 (by decide)
  have ht7 : ¬ (p0).toInt = 7 := lv_neT hs32 (by decide)
  refine t_tabOut C 156 dX1_wordOf_1 (by omega) rfl ?_
  refine t_b C (pc' := 164) (L' := [(0, vI p0)]) (st' := [vI 0, vI 0, vI 0, vI 0, vI 102, vI 105]) [(.bipush 105, 2), (.bipush 102, 2), (.iconst 0, 1), (.iconst 0, 1), (.iconst 0, 1), (.iconst 0, 1)] ⟨dX1_wordOf_156, dX1_wordOf_158, dX1_wordOf_160, dX1_wordOf_161, dX1_wordOf_162, dX1_wordOf_163, rfl⟩ rfl ?_
  refine t_callSJ C 167 [vI 105, vI 102, vI 0, vI 0, vI 0, vI 0] [] dX1_wordOf_164 rfl (ok_X1_spelt hG hw) q2472 q2473 q159 q2474 hd_X1_spelt ⟨rfl, rfl, rfl⟩ (fun r34 T33 hw => ?_)
  exact t_lret C dX1_wordOf_167 ⟨_, rfl, hw⟩
def wp_X1_isName  (T : TS) (Q : Int32 → TS → Prop) : Prop :=
  (((T.s 213) = 2 →
  tlp (σ := Int32) (fun s2 T3 k2 =>
  ((8 < s2 →
  Q 1 T3) ∧ (¬ 8 < s2 →
  wp_X1_wordOf s2 T3 fun r6 T5 =>
  (((lg_cmp (T3.w 218) r6) = 0 →
  Q 0 T5) ∧ (¬ (lg_cmp (T3.w 218) r6) = 0 →
  k2 (s2 + 1) T5))))) 0 T) ∧ (¬ (T.s 213) = 2 →
  Q 0 T))
theorem hd_X1_isName : yX1_isName.cls = RX1 ∧ yX1_isName.cls ≠ "java/lang/invoke/MethodHandle" ∧ yX1_isName.cls ≠ "java/lang/invoke/VarHandle" ∧ (parseMethodDescriptor yX1_isName.desc).map (fun d => d.parameters.length) = some 0 := by decide +kernel
theorem ok_X1_isName {l : Launch} {D : va_G} {s0 : S0} (hG : G0 D s0) {o : Nat}  {T : TS} {Q : Int32 → TS → Prop} (hw : wp_X1_isName  T Q) : OKt l D s0 o yX1_isName cX1_isName 2 (some .boolean) 2 47 [vA (some o)] T (TI Q) := by
  refine t_met hG rfl rfl (L0 := [(0, vA (some o))]) rfl rfl ?_
  intro h K C
  unfold wp_X1_isName at hw
  refine t_b C (pc' := 1) (L' := [(0, vA (some o))]) (st' := [vA (some o)]) [(.aload_n 0, 1)] ⟨dX1_isName_0, rfl⟩ rfl ?_
  refine t_gI C 213 4 dX1_isName_1 rfl rfl rfl q2201 (fun _ _ _ => rfl) ?_
  refine t_b C (pc' := 5) (L' := [(0, vA (some o))]) (st' := [vI 2, vI (T.s 213)]) [(.iconst 2, 1)] ⟨dX1_isName_4, rfl⟩ rfl ?_
  refine t_icmp_eq C 10 8 dX1_isName_5 rfl rfl (fun hc1 => ?_) (fun hc1 => ?_)
  · replace hw := hw.1 hc1
    refine t_b C (pc' := 12) (L' := [(1, vI 0), (0, vA (some o))]) (st' := []) [(.iconst 0, 1), (.istore_n 1, 1)] ⟨dX1_isName_10, dX1_isName_11, rfl⟩ rfl ?_
    obtain ⟨I2, ⟨n2, hI2⟩, hB2⟩ := tlp.out hw
    refine t_sub C (L' := [(0, vA (some o)), (1, vI 0)]) [1, 0] rfl ?_
    have key2 : ∀ (n : Nat) (s2 : Int32) (T3 : TS), I2 n s2 T3 → K 12 [(0, vA (some o)), (1, vI s2)] [] T3 := by
      intro n
      induction n using Nat.strongRecOn with
      | ind n ih2 =>
        intro s2 T3 hI
        replace hw := hB2 n s2 T3 hI
        refine t_b C (pc' := 15) (L' := [(0, vA (some o)), (1, vI s2)]) (st' := [vI 8, vI s2]) [(.iload_n 1, 1), (.bipush 8, 2)] ⟨dX1_isName_12, dX1_isName_13, rfl⟩ rfl ?_
        refine t_icmp_gt C 38 18 dX1_isName_15 rfl rfl (fun hc4 => ?_) (fun hc4 => ?_)
        · replace hw := hw.1 hc4
          refine t_b C (pc' := 39) (L' := [(0, vA (some o)), (1, vI s2)]) (st' := [vI 1]) [(.iconst 1, 1)] ⟨dX1_isName_38, rfl⟩ rfl ?_
          exact t_zret C dX1_isName_39 rfl ⟨_, rfl, hw⟩
        · replace hw := hw.2 hc4
          refine t_b C (pc' := 19) (L' := [(0, vA (some o)), (1, vI s2)]) (st' := [vA (some o)]) [(.aload_n 0, 1)] ⟨dX1_isName_18, rfl⟩ rfl ?_
          refine t_gJ C 218 22 dX1_isName_19 rfl rfl rfl q2206 (fun _ _ _ => rfl) ?_
          refine t_b C (pc' := 23) (L' := [(0, vA (some o)), (1, vI s2)]) (st' := [vI s2, vJ (T3.w 218)]) [(.iload_n 1, 1)] ⟨dX1_isName_22, rfl⟩ rfl ?_
          refine t_callSJ C 26 [vI s2] [vJ (T3.w 218)] dX1_isName_23 rfl (ok_X1_wordOf hG hw) q2469 q2470 q159 q2471 hd_X1_wordOf ⟨rfl, rfl, rfl⟩ (fun r6 T5 hw => ?_)
          refine t_b C (pc' := 27) (L' := [(0, vA (some o)), (1, vI s2)]) (st' := [vI (lg_cmp (T3.w 218) r6)]) [(.lcmp, 1)] ⟨dX1_isName_26, rfl⟩ rfl ?_
          refine t_if_ne C 32 30 dX1_isName_27 rfl rfl (fun hc7 => ?_) (fun hc7 => ?_)
          · replace hw := hw.2 hc7
            refine t_b C (pc' := 35) (L' := [(1, vI (s2 + 1)), (0, vA (some o))]) (st' := []) [(.iinc 1 1, 3)] ⟨dX1_isName_32, rfl⟩ rfl ?_
            refine t_goto C 12 dX1_isName_35 rfl ?_
            refine t_sub C (L' := [(0, vA (some o)), (1, vI (s2 + 1))]) [1, 0] rfl ?_
            obtain ⟨m9, hm9, hw⟩ := hw
            exact ih2 m9 hm9 (s2 + 1) T5 hw
          · replace hw := hw.1 hc7
            refine t_b C (pc' := 31) (L' := [(0, vA (some o)), (1, vI s2)]) (st' := [vI 0]) [(.iconst 0, 1)] ⟨dX1_isName_30, rfl⟩ rfl ?_
            exact t_zret C dX1_isName_31 rfl ⟨_, rfl, hw⟩
    exact key2 n2 0 T hI2
  · replace hw := hw.2 hc1
    refine t_b C (pc' := 9) (L' := [(0, vA (some o))]) (st' := [vI 0]) [(.iconst 0, 1)] ⟨dX1_isName_8, rfl⟩ rfl ?_
    exact t_zret C dX1_isName_9 rfl ⟨_, rfl, hw⟩
def wp_X1_readNode : Nat → Int32 → Int32 → Int32 → TS → (Int32 → TS → Prop) → Prop
  | 0, _, _, _, _, _ => False
  | d + 1, p0, p1, p2, T, Q =>
    wp_X1_isName  T fun r2 T1 =>
    ((r2 = 0 →
    wp_X1_bad 2 T1 fun r84 T83 =>
    bz r84 ∧ Q r84 T83) ∧ (¬ r2 = 0 →
    tix 1 40 1 ∧
    wp_X1_findIn 3 8 (T1.a 1 (ni 1)) (T1.w 218) T1 fun r5 T4 =>
    ((r5 = (-1) →
    wp_X1_bad 3 T4 fun r82 T81 =>
    bz r82 ∧ Q r82 T81) ∧ (¬ r5 = (-1) →
    ((((T4.s 252) + (T4.s 251)) = 40 →
    wp_X1_bad 6 T4 fun r9 T8 =>
    bz r9 ∧ Q r9 T8) ∧ (¬ ((T4.s 252) + (T4.s 251)) = 40 →
    ((p1 ≤ 12 →
    ((p0 = (-1) →
    ∀ T12, T12 = T4.ss 251 ((T4.s 251) + 1) →
    tix 22 40 (T4.s 251) ∧
    ∀ T13, T13 = T12.sa 22 (ni (T4.s 251)) r5 →
    tix 24 40 (T4.s 251) ∧
    ∀ T14, T14 = T13.sa 24 (ni (T4.s 251)) p2 →
    tix 23 40 (T4.s 251) ∧
    ∀ T15, T15 = T14.sa 23 (ni (T4.s 251)) 0 →
    wp_X1_go  T15 fun T16 =>
    tjn (α := Unit) (fun J19 =>
    (((T16.s 213) = 3 →
    tix 23 40 (T4.s 251) ∧
    ∀ T21, T21 = T16.sa 23 (ni (T4.s 251)) (T16.s 214) →
    wp_X1_go  T21 fun T22 =>
    J19 () T22) ∧ (¬ (T16.s 213) = 3 →
    J19 () T16))) (fun x24 T25 =>
    tlp (σ := Int32) (fun s26 T27 k26 =>
    tix 1 40 (32 + r5) ∧
    (((T27.a 1 (ni (32 + r5))) ≤ s26 →
    tix 1 40 (32 + r5) ∧
    (((T27.a 1 (ni (32 + r5))) = 0 →
    Q 1 T27) ∧ (¬ (T27.a 1 (ni (32 + r5))) = 0 →
    wp_X1_eats 41 T27 fun r31 T30 =>
    ∀ m32 : Int32, m32 = (if r31 = 0 then 0 else 1) →
    bz m32 ∧ Q m32 T30))) ∧ (¬ (T27.a 1 (ni (32 + r5))) ≤ s26 →
    ∀ m35 : Int32, m35 = (if s26 = 0 then 40 else 44) →
    wp_X1_eats m35 T27 fun r38 T37 =>
    ((r38 = 0 →
    Q 0 T37) ∧ (¬ r38 = 0 →
    tix 1 40 ((44 + (3 * r5)) + s26) ∧
    wp_X1_readNode d (T37.a 1 (ni ((44 + (3 * r5)) + s26))) (p1 + 1) (T4.s 251) T37 fun r41 T40 =>
    ((r41 = 0 →
    Q 0 T40) ∧ (¬ r41 = 0 →
    k26 (s26 + 1) T40))))))) 0 T25)) ∧ (¬ p0 = (-1) →
    tix 1 40 (20 + r5) ∧
    (((T4.a 1 (ni (20 + r5))) = p0 →
    ∀ T45, T45 = T4.ss 251 ((T4.s 251) + 1) →
    tix 22 40 (T4.s 251) ∧
    ∀ T46, T46 = T45.sa 22 (ni (T4.s 251)) r5 →
    tix 24 40 (T4.s 251) ∧
    ∀ T47, T47 = T46.sa 24 (ni (T4.s 251)) p2 →
    tix 23 40 (T4.s 251) ∧
    ∀ T48, T48 = T47.sa 23 (ni (T4.s 251)) 0 →
    wp_X1_go  T48 fun T49 =>
    tjn (α := Unit) (fun J52 =>
    (((T49.s 213) = 3 →
    tix 23 40 (T4.s 251) ∧
    ∀ T54, T54 = T49.sa 23 (ni (T4.s 251)) (T49.s 214) →
    wp_X1_go  T54 fun T55 =>
    J52 () T55) ∧ (¬ (T49.s 213) = 3 →
    J52 () T49))) (fun x57 T58 =>
    tlp (σ := Int32) (fun s59 T60 k59 =>
    tix 1 40 (32 + r5) ∧
    (((T60.a 1 (ni (32 + r5))) ≤ s59 →
    tix 1 40 (32 + r5) ∧
    (((T60.a 1 (ni (32 + r5))) = 0 →
    Q 1 T60) ∧ (¬ (T60.a 1 (ni (32 + r5))) = 0 →
    wp_X1_eats 41 T60 fun r64 T63 =>
    ∀ m65 : Int32, m65 = (if r64 = 0 then 0 else 1) →
    bz m65 ∧ Q m65 T63))) ∧ (¬ (T60.a 1 (ni (32 + r5))) ≤ s59 →
    ∀ m68 : Int32, m68 = (if s59 = 0 then 40 else 44) →
    wp_X1_eats m68 T60 fun r71 T70 =>
    ((r71 = 0 →
    Q 0 T70) ∧ (¬ r71 = 0 →
    tix 1 40 ((44 + (3 * r5)) + s59) ∧
    wp_X1_readNode d (T70.a 1 (ni ((44 + (3 * r5)) + s59))) (p1 + 1) (T4.s 251) T70 fun r74 T73 =>
    ((r74 = 0 →
    Q 0 T73) ∧ (¬ r74 = 0 →
    k59 (s59 + 1) T73))))))) 0 T58)) ∧ (¬ (T4.a 1 (ni (20 + r5))) = p0 →
    wp_X1_bad 7 T4 fun r78 T77 =>
    bz r78 ∧ Q r78 T77))))) ∧ (¬ p1 ≤ 12 →
    wp_X1_bad 6 T4 fun r80 T79 =>
    bz r80 ∧ Q r80 T79))))))))
theorem hd_X1_readNode : yX1_readNode.cls = RX1 ∧ yX1_readNode.cls ≠ "java/lang/invoke/MethodHandle" ∧ yX1_readNode.cls ≠ "java/lang/invoke/VarHandle" ∧ (parseMethodDescriptor yX1_readNode.desc).map (fun d => d.parameters.length) = some 3 := by decide +kernel
theorem ok_X1_readNode {l : Launch} {D : va_G} {s0 : S0} (hG : G0 D s0) {o : Nat} : ∀ (d : Nat) {p0 : Int32} {p1 : Int32} {p2 : Int32} {T : TS} {Q : Int32 → TS → Prop}, wp_X1_readNode d p0 p1 p2 T Q → OKt l D s0 o yX1_readNode cX1_readNode 7 (some .boolean) (3 + d) (68 + d * 26) [vA (some o), vI p0, vI p1, vI p2] T (TI Q) := by
  intro d
  induction d with
  | zero => intro p0 p1 p2 T Q hw; exact hw.elim
  | succ d ih =>
  intro p0 p1 p2 T Q hw
  refine t_met hG rfl rfl (L0 := [(0, vA (some o)), (1, vI p0), (2, vI p1), (3, vI p2)]) rfl rfl ?_
  intro h K C
  unfold wp_X1_readNode at hw
  refine t_b C (pc' := 1) (L' := [(0, vA (some o)), (1, vI p0), (2, vI p1), (3, vI p2)]) (st' := [vA (some o)]) [(.aload_n 0, 1)] ⟨dX1_readNode_0, rfl⟩ rfl ?_
  refine t_callVI C 4 [] [] dX1_readNode_1 rfl (ok_X1_isName hG hw) q2483 q2485 qs78 q159 q2486 hd_X1_isName ⟨Nat.ble_eq_true_of_le (by omega), Nat.ble_eq_true_of_le (by omega), rfl⟩ (fun r2 T1 hw => ?_)
  refine t_if_ne C 13 7 dX1_readNode_4 rfl rfl (fun hc3 => ?_) (fun hc3 => ?_)
  · replace hw := hw.2 hc3
    refine t_b C (pc' := 14) (L' := [(0, vA (some o)), (1, vI p0), (2, vI p1), (3, vI p2)]) (st' := [vA (some o)]) [(.aload_n 0, 1)] ⟨dX1_readNode_13, rfl⟩ rfl ?_
    refine t_gA C 203 3 17 dX1_readNode_14 rfl rfl rfl rfl rfl q2191 (fun _ _ _ => rfl) ?_
    refine t_b C (pc' := 20) (L' := [(0, vA (some o)), (1, vI p0), (2, vI p1), (3, vI p2)]) (st' := [vA (some o), vI 8, vA (some (o + 1 + 3))]) [(.bipush 8, 2), (.aload_n 0, 1)] ⟨dX1_readNode_17, dX1_readNode_19, rfl⟩ rfl ?_
    refine t_gA C 201 1 23 dX1_readNode_20 rfl rfl rfl rfl rfl q2189 (fun _ _ _ => rfl) ?_
    refine t_b C (pc' := 24) (L' := [(0, vA (some o)), (1, vI p0), (2, vI p1), (3, vI p2)]) (st' := [vI 1, vA (some (o + 1 + 1)), vI 8, vA (some (o + 1 + 3))]) [(.iconst 1, 1)] ⟨dX1_readNode_23, rfl⟩ rfl ?_
    refine t_iald C 25 dX1_readNode_24 rfl hw.1 ?_
    replace hw := hw.2
    refine t_b C (pc' := 26) (L' := [(0, vA (some o)), (1, vI p0), (2, vI p1), (3, vI p2)]) (st' := [vA (some o), vI (T1.a 1 (ni 1)), vI 8, vA (some (o + 1 + 3))]) [(.aload_n 0, 1)] ⟨dX1_readNode_25, rfl⟩ rfl ?_
    refine t_gJ C 218 29 dX1_readNode_26 rfl rfl rfl q2206 (fun _ _ _ => rfl) ?_
    refine t_callSI C 32 [vA (some (o + 1 + 3)), vI 8, vI (T1.a 1 (ni 1)), vJ (T1.w 218)] [] dX1_readNode_29 rfl (ok_X1_findIn hG hw) q2487 q2488 q159 q2489 hd_X1_findIn ⟨Nat.ble_eq_true_of_le (by omega), Nat.ble_eq_true_of_le (by omega), rfl⟩ (fun r5 T4 hw => ?_)
    refine t_b C (pc' := 37) (L' := [(4, vI r5), (0, vA (some o)), (1, vI p0), (2, vI p1), (3, vI p2)]) (st' := [vI (-1), vI r5]) [(.istore 4, 2), (.iload 4, 2), (.iconst (-1), 1)] ⟨dX1_readNode_32, dX1_readNode_34, dX1_readNode_36, rfl⟩ rfl ?_
    refine t_icmp_ne C 46 40 dX1_readNode_37 rfl rfl (fun hc6 => ?_) (fun hc6 => ?_)
    · replace hw := hw.2 hc6
      refine t_b C (pc' := 47) (L' := [(4, vI r5), (0, vA (some o)), (1, vI p0), (2, vI p1), (3, vI p2)]) (st' := [vA (some o)]) [(.aload_n 0, 1)] ⟨dX1_readNode_46, rfl⟩ rfl ?_
      refine t_gI C 252 50 dX1_readNode_47 rfl rfl rfl q2240 (fun _ _ _ => rfl) ?_
      refine t_b C (pc' := 51) (L' := [(4, vI r5), (0, vA (some o)), (1, vI p0), (2, vI p1), (3, vI p2)]) (st' := [vA (some o), vI (T4.s 252)]) [(.aload_n 0, 1)] ⟨dX1_readNode_50, rfl⟩ rfl ?_
      refine t_gI C 251 54 dX1_readNode_51 rfl rfl rfl q2239 (fun _ _ _ => rfl) ?_
      refine t_b C (pc' := 57) (L' := [(4, vI r5), (0, vA (some o)), (1, vI p0), (2, vI p1), (3, vI p2)]) (st' := [vI 40, vI ((T4.s 252) + (T4.s 251))]) [(.iadd, 1), (.bipush 40, 2)] ⟨dX1_readNode_54, dX1_readNode_55, rfl⟩ rfl ?_
      refine t_icmp_eq C 66 60 dX1_readNode_57 rfl rfl (fun hc7 => ?_) (fun hc7 => ?_)
      · replace hw := hw.1 hc7
        refine t_b C (pc' := 69) (L' := [(4, vI r5), (0, vA (some o)), (1, vI p0), (2, vI p1), (3, vI p2)]) (st' := [vI 6, vA (some o)]) [(.aload_n 0, 1), (.bipush 6, 2)] ⟨dX1_readNode_66, dX1_readNode_67, rfl⟩ rfl ?_
        refine t_callVI C 72 [vI 6] [] dX1_readNode_69 rfl (ok_X1_bad hG hw) q2479 q2481 qs77 q159 q2482 hd_X1_bad ⟨Nat.ble_eq_true_of_le (by omega), Nat.ble_eq_true_of_le (by omega), rfl⟩ (fun r9 T8 hw => ?_)
        exact t_zret C dX1_readNode_72 (bz_n hw.1) ⟨_, rfl, hw.2⟩
      · replace hw := hw.2 hc7
        refine t_b C (pc' := 63) (L' := [(4, vI r5), (0, vA (some o)), (1, vI p0), (2, vI p1), (3, vI p2)]) (st' := [vI 12, vI p1]) [(.iload_n 2, 1), (.bipush 12, 2)] ⟨dX1_readNode_60, dX1_readNode_61, rfl⟩ rfl ?_
        refine t_icmp_le C 73 66 dX1_readNode_63 rfl rfl (fun hc10 => ?_) (fun hc10 => ?_)
        · replace hw := hw.1 hc10
          refine t_b C (pc' := 75) (L' := [(4, vI r5), (0, vA (some o)), (1, vI p0), (2, vI p1), (3, vI p2)]) (st' := [vI (-1), vI p0]) [(.iload_n 1, 1), (.iconst (-1), 1)] ⟨dX1_readNode_73, dX1_readNode_74, rfl⟩ rfl ?_
          refine t_icmp_eq C 99 78 dX1_readNode_75 rfl rfl (fun hc11 => ?_) (fun hc11 => ?_)
          · replace hw := hw.1 hc11
            refine t_b C (pc' := 100) (L' := [(4, vI r5), (0, vA (some o)), (1, vI p0), (2, vI p1), (3, vI p2)]) (st' := [vA (some o)]) [(.aload_n 0, 1)] ⟨dX1_readNode_99, rfl⟩ rfl ?_
            refine t_gI C 251 103 dX1_readNode_100 rfl rfl rfl q2239 (fun _ _ _ => rfl) ?_
            refine t_b C (pc' := 107) (L' := [(5, vI (T4.s 251)), (4, vI r5), (0, vA (some o)), (1, vI p0), (2, vI p1), (3, vI p2)]) (st' := [vA (some o), vA (some o)]) [(.istore 5, 2), (.aload_n 0, 1), (.dup, 1)] ⟨dX1_readNode_103, dX1_readNode_105, dX1_readNode_106, rfl⟩ rfl ?_
            refine t_gI C 251 110 dX1_readNode_107 rfl rfl rfl q2239 (fun _ _ _ => rfl) ?_
            refine t_b C (pc' := 112) (L' := [(5, vI (T4.s 251)), (4, vI r5), (0, vA (some o)), (1, vI p0), (2, vI p1), (3, vI p2)]) (st' := [vI ((T4.s 251) + 1), vA (some o)]) [(.iconst 1, 1), (.iadd, 1)] ⟨dX1_readNode_110, dX1_readNode_111, rfl⟩ rfl ?_
            refine t_pI C 251 115 dX1_readNode_112 rfl rfl rfl rfl q2239 (fun _ _ _ => rfl) rfl rfl (fun T12 eT12 => ?_)
            replace hw := hw T12 eT12
            refine t_b C (pc' := 116) (L' := [(5, vI (T4.s 251)), (4, vI r5), (0, vA (some o)), (1, vI p0), (2, vI p1), (3, vI p2)]) (st' := [vA (some o)]) [(.aload_n 0, 1)] ⟨dX1_readNode_115, rfl⟩ rfl ?_
            refine t_gA C 246 22 119 dX1_readNode_116 rfl rfl rfl rfl rfl q2234 (fun _ _ _ => rfl) ?_
            refine t_b C (pc' := 123) (L' := [(5, vI (T4.s 251)), (4, vI r5), (0, vA (some o)), (1, vI p0), (2, vI p1), (3, vI p2)]) (st' := [vI r5, vI (T4.s 251), vA (some (o + 1 + 22))]) [(.iload 5, 2), (.iload 4, 2)] ⟨dX1_readNode_119, dX1_readNode_121, rfl⟩ rfl ?_
            refine t_iast C 124 dX1_readNode_123 rfl hw.1 (fun T13 eT13 => ?_)
            replace hw := hw.2 T13 eT13
            refine t_b C (pc' := 125) (L' := [(5, vI (T4.s 251)), (4, vI r5), (0, vA (some o)), (1, vI p0), (2, vI p1), (3, vI p2)]) (st' := [vA (some o)]) [(.aload_n 0, 1)] ⟨dX1_readNode_124, rfl⟩ rfl ?_
            refine t_gA C 248 24 128 dX1_readNode_125 rfl rfl rfl rfl rfl q2236 (fun _ _ _ => rfl) ?_
            refine t_b C (pc' := 131) (L' := [(5, vI (T4.s 251)), (4, vI r5), (0, vA (some o)), (1, vI p0), (2, vI p1), (3, vI p2)]) (st' := [vI p2, vI (T4.s 251), vA (some (o + 1 + 24))]) [(.iload 5, 2), (.iload_n 3, 1)] ⟨dX1_readNode_128, dX1_readNode_130, rfl⟩ rfl ?_
            refine t_iast C 132 dX1_readNode_131 rfl hw.1 (fun T14 eT14 => ?_)
            replace hw := hw.2 T14 eT14
            refine t_b C (pc' := 133) (L' := [(5, vI (T4.s 251)), (4, vI r5), (0, vA (some o)), (1, vI p0), (2, vI p1), (3, vI p2)]) (st' := [vA (some o)]) [(.aload_n 0, 1)] ⟨dX1_readNode_132, rfl⟩ rfl ?_
            refine t_gA C 247 23 136 dX1_readNode_133 rfl rfl rfl rfl rfl q2235 (fun _ _ _ => rfl) ?_
            refine t_b C (pc' := 139) (L' := [(5, vI (T4.s 251)), (4, vI r5), (0, vA (some o)), (1, vI p0), (2, vI p1), (3, vI p2)]) (st' := [vI 0, vI (T4.s 251), vA (some (o + 1 + 23))]) [(.iload 5, 2), (.iconst 0, 1)] ⟨dX1_readNode_136, dX1_readNode_138, rfl⟩ rfl ?_
            refine t_iast C 140 dX1_readNode_139 rfl hw.1 (fun T15 eT15 => ?_)
            replace hw := hw.2 T15 eT15
            refine t_b C (pc' := 141) (L' := [(5, vI (T4.s 251)), (4, vI r5), (0, vA (some o)), (1, vI p0), (2, vI p1), (3, vI p2)]) (st' := [vA (some o)]) [(.aload_n 0, 1)] ⟨dX1_readNode_140, rfl⟩ rfl ?_
            refine t_callVV C 144 [] [] dX1_readNode_141 rfl (ok_X1_go hG hw) q2442 q2444 qs72 q159 q2445 hd_X1_go ⟨Nat.ble_eq_true_of_le (by omega), Nat.ble_eq_true_of_le (by omega), rfl⟩ (fun T16 hw => ?_)
            refine t_b C (pc' := 145) (L' := [(5, vI (T4.s 251)), (4, vI r5), (0, vA (some o)), (1, vI p0), (2, vI p1), (3, vI p2)]) (st' := [vA (some o)]) [(.aload_n 0, 1)] ⟨dX1_readNode_144, rfl⟩ rfl ?_
            refine t_gI C 213 148 dX1_readNode_145 rfl rfl rfl q2201 (fun _ _ _ => rfl) ?_
            refine t_b C (pc' := 149) (L' := [(5, vI (T4.s 251)), (4, vI r5), (0, vA (some o)), (1, vI p0), (2, vI p1), (3, vI p2)]) (st' := [vI 3, vI (T16.s 213)]) [(.iconst 3, 1)] ⟨dX1_readNode_148, rfl⟩ rfl ?_
            obtain ⟨J19, hw, hJ19⟩ := tjn.out hw
            have kj18 : ∀ (x24 : Unit) (T25 : TS), J19 x24 T25 → K 167 [(0, vA (some o)), (2, vI p1), (4, vI r5), (5, vI (T4.s 251))] [] T25 := by
              intro x24 T25 hj
              replace hw := hJ19 x24 T25 hj
              refine t_b C (pc' := 170) (L' := [(6, vI 0), (0, vA (some o)), (2, vI p1), (4, vI r5), (5, vI (T4.s 251))]) (st' := []) [(.iconst 0, 1), (.istore 6, 2)] ⟨dX1_readNode_167, dX1_readNode_168, rfl⟩ rfl ?_
              obtain ⟨I26, ⟨n26, hI26⟩, hB26⟩ := tlp.out hw
              refine t_sub C (L' := [(0, vA (some o)), (2, vI p1), (4, vI r5), (5, vI (T4.s 251)), (6, vI 0)]) [1, 2, 3, 4, 0] rfl ?_
              have key26 : ∀ (n : Nat) (s26 : Int32) (T27 : TS), I26 n s26 T27 → K 170 [(0, vA (some o)), (2, vI p1), (4, vI r5), (5, vI (T4.s 251)), (6, vI s26)] [] T27 := by
                intro n
                induction n using Nat.strongRecOn with
                | ind n ih26 =>
                  intro s26 T27 hI
                  replace hw := hB26 n s26 T27 hI
                  refine t_b C (pc' := 173) (L' := [(0, vA (some o)), (2, vI p1), (4, vI r5), (5, vI (T4.s 251)), (6, vI s26)]) (st' := [vA (some o), vI s26]) [(.iload 6, 2), (.aload_n 0, 1)] ⟨dX1_readNode_170, dX1_readNode_172, rfl⟩ rfl ?_
                  refine t_gA C 201 1 176 dX1_readNode_173 rfl rfl rfl rfl rfl q2189 (fun _ _ _ => rfl) ?_
                  refine t_b C (pc' := 181) (L' := [(0, vA (some o)), (2, vI p1), (4, vI r5), (5, vI (T4.s 251)), (6, vI s26)]) (st' := [vI (32 + r5), vA (some (o + 1 + 1)), vI s26]) [(.bipush 32, 2), (.iload 4, 2), (.iadd, 1)] ⟨dX1_readNode_176, dX1_readNode_178, dX1_readNode_180, rfl⟩ rfl ?_
                  refine t_iald C 182 dX1_readNode_181 rfl hw.1 ?_
                  replace hw := hw.2
                  refine t_icmp_ge C 239 185 dX1_readNode_182 rfl rfl (fun hc28 => ?_) (fun hc28 => ?_)
                  · replace hw := hw.1 hc28
                    refine t_b C (pc' := 240) (L' := [(0, vA (some o)), (2, vI p1), (4, vI r5), (5, vI (T4.s 251)), (6, vI s26)]) (st' := [vA (some o)]) [(.aload_n 0, 1)] ⟨dX1_readNode_239, rfl⟩ rfl ?_
                    refine t_gA C 201 1 243 dX1_readNode_240 rfl rfl rfl rfl rfl q2189 (fun _ _ _ => rfl) ?_
                    refine t_b C (pc' := 248) (L' := [(0, vA (some o)), (2, vI p1), (4, vI r5), (5, vI (T4.s 251)), (6, vI s26)]) (st' := [vI (32 + r5), vA (some (o + 1 + 1))]) [(.bipush 32, 2), (.iload 4, 2), (.iadd, 1)] ⟨dX1_readNode_243, dX1_readNode_245, dX1_readNode_247, rfl⟩ rfl ?_
                    refine t_iald C 249 dX1_readNode_248 rfl hw.1 ?_
                    replace hw := hw.2
                    refine t_if_eq C 261 252 dX1_readNode_249 rfl rfl (fun hc29 => ?_) (fun hc29 => ?_)
                    · replace hw := hw.1 hc29
                      refine t_b C (pc' := 262) (L' := [(0, vA (some o)), (2, vI p1), (4, vI r5), (5, vI (T4.s 251)), (6, vI s26)]) (st' := [vI 1]) [(.iconst 1, 1)] ⟨dX1_readNode_261, rfl⟩ rfl ?_
                      refine t_goto C 266 dX1_readNode_262 rfl ?_
                      exact t_zret C dX1_readNode_266 rfl ⟨_, rfl, hw⟩
                    · replace hw := hw.2 hc29
                      refine t_b C (pc' := 255) (L' := [(0, vA (some o)), (2, vI p1), (4, vI r5), (5, vI (T4.s 251)), (6, vI s26)]) (st' := [vI 41, vA (some o)]) [(.aload_n 0, 1), (.bipush 41, 2)] ⟨dX1_readNode_252, dX1_readNode_253, rfl⟩ rfl ?_
                      refine t_callVI C 258 [vI 41] [] dX1_readNode_255 rfl (ok_X1_eats hG hw) q2497 q2499 qs80 q159 q2500 hd_X1_eats ⟨Nat.ble_eq_true_of_le (by omega), Nat.ble_eq_true_of_le (by omega), rfl⟩ (fun r31 T30 hw => ?_)
                      have kj33 : ∀ (m32 : Int32), m32 = (if r31 = 0 then 0 else 1) → K 266 [] [vI m32] T30 := by
                        intro m32 em32
                        replace hw := hw m32 em32
                        exact t_zret C dX1_readNode_266 (bz_n hw.1) ⟨_, rfl, hw.2⟩
                      refine t_if_eq C 265 261 dX1_readNode_258 rfl rfl (fun hc34 => ?_) (fun hc34 => ?_)
                      · refine t_b C (pc' := 266) (L' := [(0, vA (some o)), (2, vI p1), (4, vI r5), (5, vI (T4.s 251)), (6, vI s26)]) (st' := [vI 0]) [(.iconst 0, 1)] ⟨dX1_readNode_265, rfl⟩ rfl ?_
                        refine t_sub C (L' := []) [] rfl ?_
                        exact kj33 _ ((if_pos hc34).symm)
                      · refine t_b C (pc' := 262) (L' := [(0, vA (some o)), (2, vI p1), (4, vI r5), (5, vI (T4.s 251)), (6, vI s26)]) (st' := [vI 1]) [(.iconst 1, 1)] ⟨dX1_readNode_261, rfl⟩ rfl ?_
                        refine t_goto C 266 dX1_readNode_262 rfl ?_
                        refine t_sub C (L' := []) [] rfl ?_
                        exact kj33 _ ((if_neg hc34).symm)
                  · replace hw := hw.2 hc28
                    refine t_b C (pc' := 188) (L' := [(0, vA (some o)), (2, vI p1), (4, vI r5), (5, vI (T4.s 251)), (6, vI s26)]) (st' := [vI s26, vA (some o)]) [(.aload_n 0, 1), (.iload 6, 2)] ⟨dX1_readNode_185, dX1_readNode_186, rfl⟩ rfl ?_
                    have kj36 : ∀ (m35 : Int32), m35 = (if s26 = 0 then 40 else 44) → K 198 [(0, vA (some o)), (2, vI p1), (4, vI r5), (5, vI (T4.s 251)), (6, vI s26)] [vI m35, vA (some o)] T27 := by
                      intro m35 em35
                      replace hw := hw m35 em35
                      refine t_callVI C 201 [vI m35] [] dX1_readNode_198 rfl (ok_X1_eats hG hw) q2497 q2499 qs80 q159 q2500 hd_X1_eats ⟨Nat.ble_eq_true_of_le (by omega), Nat.ble_eq_true_of_le (by omega), rfl⟩ (fun r38 T37 hw => ?_)
                      refine t_if_eq C 231 204 dX1_readNode_201 rfl rfl (fun hc39 => ?_) (fun hc39 => ?_)
                      · replace hw := hw.1 hc39
                        refine t_b C (pc' := 232) (L' := [(0, vA (some o)), (2, vI p1), (4, vI r5), (5, vI (T4.s 251)), (6, vI s26)]) (st' := [vI 0]) [(.iconst 0, 1)] ⟨dX1_readNode_231, rfl⟩ rfl ?_
                        exact t_zret C dX1_readNode_232 rfl ⟨_, rfl, hw⟩
                      · replace hw := hw.2 hc39
                        refine t_b C (pc' := 206) (L' := [(0, vA (some o)), (2, vI p1), (4, vI r5), (5, vI (T4.s 251)), (6, vI s26)]) (st' := [vA (some o), vA (some o)]) [(.aload_n 0, 1), (.aload_n 0, 1)] ⟨dX1_readNode_204, dX1_readNode_205, rfl⟩ rfl ?_
                        refine t_gA C 201 1 209 dX1_readNode_206 rfl rfl rfl rfl rfl q2189 (fun _ _ _ => rfl) ?_
                        refine t_b C (pc' := 219) (L' := [(0, vA (some o)), (2, vI p1), (4, vI r5), (5, vI (T4.s 251)), (6, vI s26)]) (st' := [vI ((44 + (3 * r5)) + s26), vA (some (o + 1 + 1)), vA (some o)]) [(.bipush 44, 2), (.iconst 3, 1), (.iload 4, 2), (.imul, 1), (.iadd, 1), (.iload 6, 2), (.iadd, 1)] ⟨dX1_readNode_209, dX1_readNode_211, dX1_readNode_212, dX1_readNode_214, dX1_readNode_215, dX1_readNode_216, dX1_readNode_218, rfl⟩ rfl ?_
                        refine t_iald C 220 dX1_readNode_219 rfl hw.1 ?_
                        replace hw := hw.2
                        refine t_b C (pc' := 225) (L' := [(0, vA (some o)), (2, vI p1), (4, vI r5), (5, vI (T4.s 251)), (6, vI s26)]) (st' := [vI (T4.s 251), vI (p1 + 1), vI (T37.a 1 (ni ((44 + (3 * r5)) + s26))), vA (some o)]) [(.iload_n 2, 1), (.iconst 1, 1), (.iadd, 1), (.iload 5, 2)] ⟨dX1_readNode_220, dX1_readNode_221, dX1_readNode_222, dX1_readNode_223, rfl⟩ rfl ?_
                        refine t_callVI C 228 [vI (T37.a 1 (ni ((44 + (3 * r5)) + s26))), vI (p1 + 1), vI (T4.s 251)] [] dX1_readNode_225 rfl (ih hw) q2762 q2764 qs130 q159 q2765 hd_X1_readNode ⟨Nat.ble_eq_true_of_le (by omega), Nat.ble_eq_true_of_le (by omega), rfl⟩ (fun r41 T40 hw => ?_)
                        refine t_if_ne C 233 231 dX1_readNode_228 rfl rfl (fun hc42 => ?_) (fun hc42 => ?_)
                        · replace hw := hw.2 hc42
                          refine t_b C (pc' := 236) (L' := [(6, vI (s26 + 1)), (0, vA (some o)), (2, vI p1), (4, vI r5), (5, vI (T4.s 251))]) (st' := []) [(.iinc 6 1, 3)] ⟨dX1_readNode_233, rfl⟩ rfl ?_
                          refine t_goto C 170 dX1_readNode_236 rfl ?_
                          refine t_sub C (L' := [(0, vA (some o)), (2, vI p1), (4, vI r5), (5, vI (T4.s 251)), (6, vI (s26 + 1))]) [1, 2, 3, 4, 0] rfl ?_
                          obtain ⟨m9, hm9, hw⟩ := hw
                          exact ih26 m9 hm9 (s26 + 1) T40 hw
                        · replace hw := hw.1 hc42
                          refine t_b C (pc' := 232) (L' := [(0, vA (some o)), (2, vI p1), (4, vI r5), (5, vI (T4.s 251)), (6, vI s26)]) (st' := [vI 0]) [(.iconst 0, 1)] ⟨dX1_readNode_231, rfl⟩ rfl ?_
                          exact t_zret C dX1_readNode_232 rfl ⟨_, rfl, hw⟩
                    refine t_if_ne C 196 191 dX1_readNode_188 rfl rfl (fun hc43 => ?_) (fun hc43 => ?_)
                    · refine t_b C (pc' := 198) (L' := [(0, vA (some o)), (2, vI p1), (4, vI r5), (5, vI (T4.s 251)), (6, vI s26)]) (st' := [vI 44, vA (some o)]) [(.bipush 44, 2)] ⟨dX1_readNode_196, rfl⟩ rfl ?_
                      refine t_sub C (L' := [(0, vA (some o)), (2, vI p1), (4, vI r5), (5, vI (T4.s 251)), (6, vI s26)]) [0, 1, 2, 3, 4] rfl ?_
                      exact kj36 _ ((if_neg hc43).symm)
                    · refine t_b C (pc' := 193) (L' := [(0, vA (some o)), (2, vI p1), (4, vI r5), (5, vI (T4.s 251)), (6, vI s26)]) (st' := [vI 40, vA (some o)]) [(.bipush 40, 2)] ⟨dX1_readNode_191, rfl⟩ rfl ?_
                      refine t_goto C 198 dX1_readNode_193 rfl ?_
                      refine t_sub C (L' := [(0, vA (some o)), (2, vI p1), (4, vI r5), (5, vI (T4.s 251)), (6, vI s26)]) [0, 1, 2, 3, 4] rfl ?_
                      exact kj36 _ ((if_pos hc43).symm)
              exact key26 n26 0 T25 hI26
            refine t_icmp_ne C 167 152 dX1_readNode_149 rfl rfl (fun hc20 => ?_) (fun hc20 => ?_)
            · replace hw := hw.2 hc20
              refine t_sub C (L' := [(0, vA (some o)), (2, vI p1), (4, vI r5), (5, vI (T4.s 251))]) [2, 4, 1, 0] rfl ?_
              exact kj18 () T16 hw
            · replace hw := hw.1 hc20
              refine t_b C (pc' := 153) (L' := [(5, vI (T4.s 251)), (4, vI r5), (0, vA (some o)), (1, vI p0), (2, vI p1), (3, vI p2)]) (st' := [vA (some o)]) [(.aload_n 0, 1)] ⟨dX1_readNode_152, rfl⟩ rfl ?_
              refine t_gA C 247 23 156 dX1_readNode_153 rfl rfl rfl rfl rfl q2235 (fun _ _ _ => rfl) ?_
              refine t_b C (pc' := 159) (L' := [(5, vI (T4.s 251)), (4, vI r5), (0, vA (some o)), (1, vI p0), (2, vI p1), (3, vI p2)]) (st' := [vA (some o), vI (T4.s 251), vA (some (o + 1 + 23))]) [(.iload 5, 2), (.aload_n 0, 1)] ⟨dX1_readNode_156, dX1_readNode_158, rfl⟩ rfl ?_
              refine t_gI C 214 162 dX1_readNode_159 rfl rfl rfl q2202 (fun _ _ _ => rfl) ?_
              refine t_iast C 163 dX1_readNode_162 rfl hw.1 (fun T21 eT21 => ?_)
              replace hw := hw.2 T21 eT21
              refine t_b C (pc' := 164) (L' := [(5, vI (T4.s 251)), (4, vI r5), (0, vA (some o)), (1, vI p0), (2, vI p1), (3, vI p2)]) (st' := [vA (some o)]) [(.aload_n 0, 1)] ⟨dX1_readNode_163, rfl⟩ rfl ?_
              refine t_callVV C 167 [] [] dX1_readNode_164 rfl (ok_X1_go hG hw) q2442 q2444 qs72 q159 q2445 hd_X1_go ⟨Nat.ble_eq_true_of_le (by omega), Nat.ble_eq_true_of_le (by omega), rfl⟩ (fun T22 hw => ?_)
              refine t_sub C (L' := [(0, vA (some o)), (2, vI p1), (4, vI r5), (5, vI (T4.s 251))]) [2, 4, 1, 0] rfl ?_
              exact kj18 () T22 hw
          · replace hw := hw.2 hc11
            refine t_b C (pc' := 79) (L' := [(4, vI r5), (0, vA (some o)), (1, vI p0), (2, vI p1), (3, vI p2)]) (st' := [vA (some o)]) [(.aload_n 0, 1)] ⟨dX1_readNode_78, rfl⟩ rfl ?_
            refine t_gA C 201 1 82 dX1_readNode_79 rfl rfl rfl rfl rfl q2189 (fun _ _ _ => rfl) ?_
            refine t_b C (pc' := 87) (L' := [(4, vI r5), (0, vA (some o)), (1, vI p0), (2, vI p1), (3, vI p2)]) (st' := [vI (20 + r5), vA (some (o + 1 + 1))]) [(.bipush 20, 2), (.iload 4, 2), (.iadd, 1)] ⟨dX1_readNode_82, dX1_readNode_84, dX1_readNode_86, rfl⟩ rfl ?_
            refine t_iald C 88 dX1_readNode_87 rfl hw.1 ?_
            replace hw := hw.2
            refine t_b C (pc' := 89) (L' := [(4, vI r5), (0, vA (some o)), (1, vI p0), (2, vI p1), (3, vI p2)]) (st' := [vI p0, vI (T4.a 1 (ni (20 + r5)))]) [(.iload_n 1, 1)] ⟨dX1_readNode_88, rfl⟩ rfl ?_
            refine t_icmp_eq C 99 92 dX1_readNode_89 rfl rfl (fun hc44 => ?_) (fun hc44 => ?_)
            · replace hw := hw.1 hc44
              refine t_b C (pc' := 100) (L' := [(4, vI r5), (0, vA (some o)), (1, vI p0), (2, vI p1), (3, vI p2)]) (st' := [vA (some o)]) [(.aload_n 0, 1)] ⟨dX1_readNode_99, rfl⟩ rfl ?_
              refine t_gI C 251 103 dX1_readNode_100 rfl rfl rfl q2239 (fun _ _ _ => rfl) ?_
              refine t_b C (pc' := 107) (L' := [(5, vI (T4.s 251)), (4, vI r5), (0, vA (some o)), (1, vI p0), (2, vI p1), (3, vI p2)]) (st' := [vA (some o), vA (some o)]) [(.istore 5, 2), (.aload_n 0, 1), (.dup, 1)] ⟨dX1_readNode_103, dX1_readNode_105, dX1_readNode_106, rfl⟩ rfl ?_
              refine t_gI C 251 110 dX1_readNode_107 rfl rfl rfl q2239 (fun _ _ _ => rfl) ?_
              refine t_b C (pc' := 112) (L' := [(5, vI (T4.s 251)), (4, vI r5), (0, vA (some o)), (1, vI p0), (2, vI p1), (3, vI p2)]) (st' := [vI ((T4.s 251) + 1), vA (some o)]) [(.iconst 1, 1), (.iadd, 1)] ⟨dX1_readNode_110, dX1_readNode_111, rfl⟩ rfl ?_
              refine t_pI C 251 115 dX1_readNode_112 rfl rfl rfl rfl q2239 (fun _ _ _ => rfl) rfl rfl (fun T45 eT45 => ?_)
              replace hw := hw T45 eT45
              refine t_b C (pc' := 116) (L' := [(5, vI (T4.s 251)), (4, vI r5), (0, vA (some o)), (1, vI p0), (2, vI p1), (3, vI p2)]) (st' := [vA (some o)]) [(.aload_n 0, 1)] ⟨dX1_readNode_115, rfl⟩ rfl ?_
              refine t_gA C 246 22 119 dX1_readNode_116 rfl rfl rfl rfl rfl q2234 (fun _ _ _ => rfl) ?_
              refine t_b C (pc' := 123) (L' := [(5, vI (T4.s 251)), (4, vI r5), (0, vA (some o)), (1, vI p0), (2, vI p1), (3, vI p2)]) (st' := [vI r5, vI (T4.s 251), vA (some (o + 1 + 22))]) [(.iload 5, 2), (.iload 4, 2)] ⟨dX1_readNode_119, dX1_readNode_121, rfl⟩ rfl ?_
              refine t_iast C 124 dX1_readNode_123 rfl hw.1 (fun T46 eT46 => ?_)
              replace hw := hw.2 T46 eT46
              refine t_b C (pc' := 125) (L' := [(5, vI (T4.s 251)), (4, vI r5), (0, vA (some o)), (1, vI p0), (2, vI p1), (3, vI p2)]) (st' := [vA (some o)]) [(.aload_n 0, 1)] ⟨dX1_readNode_124, rfl⟩ rfl ?_
              refine t_gA C 248 24 128 dX1_readNode_125 rfl rfl rfl rfl rfl q2236 (fun _ _ _ => rfl) ?_
              refine t_b C (pc' := 131) (L' := [(5, vI (T4.s 251)), (4, vI r5), (0, vA (some o)), (1, vI p0), (2, vI p1), (3, vI p2)]) (st' := [vI p2, vI (T4.s 251), vA (some (o + 1 + 24))]) [(.iload 5, 2), (.iload_n 3, 1)] ⟨dX1_readNode_128, dX1_readNode_130, rfl⟩ rfl ?_
              refine t_iast C 132 dX1_readNode_131 rfl hw.1 (fun T47 eT47 => ?_)
              replace hw := hw.2 T47 eT47
              refine t_b C (pc' := 133) (L' := [(5, vI (T4.s 251)), (4, vI r5), (0, vA (some o)), (1, vI p0), (2, vI p1), (3, vI p2)]) (st' := [vA (some o)]) [(.aload_n 0, 1)] ⟨dX1_readNode_132, rfl⟩ rfl ?_
              refine t_gA C 247 23 136 dX1_readNode_133 rfl rfl rfl rfl rfl q2235 (fun _ _ _ => rfl) ?_
              refine t_b C (pc' := 139) (L' := [(5, vI (T4.s 251)), (4, vI r5), (0, vA (some o)), (1, vI p0), (2, vI p1), (3, vI p2)]) (st' := [vI 0, vI (T4.s 251), vA (some (o + 1 + 23))]) [(.iload 5, 2), (.iconst 0, 1)] ⟨dX1_readNode_136, dX1_readNode_138, rfl⟩ rfl ?_
              refine t_iast C 140 dX1_readNode_139 rfl hw.1 (fun T48 eT48 => ?_)
              replace hw := hw.2 T48 eT48
              refine t_b C (pc' := 141) (L' := [(5, vI (T4.s 251)), (4, vI r5), (0, vA (some o)), (1, vI p0), (2, vI p1), (3, vI p2)]) (st' := [vA (some o)]) [(.aload_n 0, 1)] ⟨dX1_readNode_140, rfl⟩ rfl ?_
              refine t_callVV C 144 [] [] dX1_readNode_141 rfl (ok_X1_go hG hw) q2442 q2444 qs72 q159 q2445 hd_X1_go ⟨Nat.ble_eq_true_of_le (by omega), Nat.ble_eq_true_of_le (by omega), rfl⟩ (fun T49 hw => ?_)
              refine t_b C (pc' := 145) (L' := [(5, vI (T4.s 251)), (4, vI r5), (0, vA (some o)), (1, vI p0), (2, vI p1), (3, vI p2)]) (st' := [vA (some o)]) [(.aload_n 0, 1)] ⟨dX1_readNode_144, rfl⟩ rfl ?_
              refine t_gI C 213 148 dX1_readNode_145 rfl rfl rfl q2201 (fun _ _ _ => rfl) ?_
              refine t_b C (pc' := 149) (L' := [(5, vI (T4.s 251)), (4, vI r5), (0, vA (some o)), (1, vI p0), (2, vI p1), (3, vI p2)]) (st' := [vI 3, vI (T49.s 213)]) [(.iconst 3, 1)] ⟨dX1_readNode_148, rfl⟩ rfl ?_
              obtain ⟨J52, hw, hJ52⟩ := tjn.out hw
              have kj51 : ∀ (x57 : Unit) (T58 : TS), J52 x57 T58 → K 167 [(0, vA (some o)), (2, vI p1), (4, vI r5), (5, vI (T4.s 251))] [] T58 := by
                intro x57 T58 hj
                replace hw := hJ52 x57 T58 hj
                refine t_b C (pc' := 170) (L' := [(6, vI 0), (0, vA (some o)), (2, vI p1), (4, vI r5), (5, vI (T4.s 251))]) (st' := []) [(.iconst 0, 1), (.istore 6, 2)] ⟨dX1_readNode_167, dX1_readNode_168, rfl⟩ rfl ?_
                obtain ⟨I59, ⟨n59, hI59⟩, hB59⟩ := tlp.out hw
                refine t_sub C (L' := [(0, vA (some o)), (2, vI p1), (4, vI r5), (5, vI (T4.s 251)), (6, vI 0)]) [1, 2, 3, 4, 0] rfl ?_
                have key59 : ∀ (n : Nat) (s59 : Int32) (T60 : TS), I59 n s59 T60 → K 170 [(0, vA (some o)), (2, vI p1), (4, vI r5), (5, vI (T4.s 251)), (6, vI s59)] [] T60 := by
                  intro n
                  induction n using Nat.strongRecOn with
                  | ind n ih59 =>
                    intro s59 T60 hI
                    replace hw := hB59 n s59 T60 hI
                    refine t_b C (pc' := 173) (L' := [(0, vA (some o)), (2, vI p1), (4, vI r5), (5, vI (T4.s 251)), (6, vI s59)]) (st' := [vA (some o), vI s59]) [(.iload 6, 2), (.aload_n 0, 1)] ⟨dX1_readNode_170, dX1_readNode_172, rfl⟩ rfl ?_
                    refine t_gA C 201 1 176 dX1_readNode_173 rfl rfl rfl rfl rfl q2189 (fun _ _ _ => rfl) ?_
                    refine t_b C (pc' := 181) (L' := [(0, vA (some o)), (2, vI p1), (4, vI r5), (5, vI (T4.s 251)), (6, vI s59)]) (st' := [vI (32 + r5), vA (some (o + 1 + 1)), vI s59]) [(.bipush 32, 2), (.iload 4, 2), (.iadd, 1)] ⟨dX1_readNode_176, dX1_readNode_178, dX1_readNode_180, rfl⟩ rfl ?_
                    refine t_iald C 182 dX1_readNode_181 rfl hw.1 ?_
                    replace hw := hw.2
                    refine t_icmp_ge C 239 185 dX1_readNode_182 rfl rfl (fun hc61 => ?_) (fun hc61 => ?_)
                    · replace hw := hw.1 hc61
                      refine t_b C (pc' := 240) (L' := [(0, vA (some o)), (2, vI p1), (4, vI r5), (5, vI (T4.s 251)), (6, vI s59)]) (st' := [vA (some o)]) [(.aload_n 0, 1)] ⟨dX1_readNode_239, rfl⟩ rfl ?_
                      refine t_gA C 201 1 243 dX1_readNode_240 rfl rfl rfl rfl rfl q2189 (fun _ _ _ => rfl) ?_
                      refine t_b C (pc' := 248) (L' := [(0, vA (some o)), (2, vI p1), (4, vI r5), (5, vI (T4.s 251)), (6, vI s59)]) (st' := [vI (32 + r5), vA (some (o + 1 + 1))]) [(.bipush 32, 2), (.iload 4, 2), (.iadd, 1)] ⟨dX1_readNode_243, dX1_readNode_245, dX1_readNode_247, rfl⟩ rfl ?_
                      refine t_iald C 249 dX1_readNode_248 rfl hw.1 ?_
                      replace hw := hw.2
                      refine t_if_eq C 261 252 dX1_readNode_249 rfl rfl (fun hc62 => ?_) (fun hc62 => ?_)
                      · replace hw := hw.1 hc62
                        refine t_b C (pc' := 262) (L' := [(0, vA (some o)), (2, vI p1), (4, vI r5), (5, vI (T4.s 251)), (6, vI s59)]) (st' := [vI 1]) [(.iconst 1, 1)] ⟨dX1_readNode_261, rfl⟩ rfl ?_
                        refine t_goto C 266 dX1_readNode_262 rfl ?_
                        exact t_zret C dX1_readNode_266 rfl ⟨_, rfl, hw⟩
                      · replace hw := hw.2 hc62
                        refine t_b C (pc' := 255) (L' := [(0, vA (some o)), (2, vI p1), (4, vI r5), (5, vI (T4.s 251)), (6, vI s59)]) (st' := [vI 41, vA (some o)]) [(.aload_n 0, 1), (.bipush 41, 2)] ⟨dX1_readNode_252, dX1_readNode_253, rfl⟩ rfl ?_
                        refine t_callVI C 258 [vI 41] [] dX1_readNode_255 rfl (ok_X1_eats hG hw) q2497 q2499 qs80 q159 q2500 hd_X1_eats ⟨Nat.ble_eq_true_of_le (by omega), Nat.ble_eq_true_of_le (by omega), rfl⟩ (fun r64 T63 hw => ?_)
                        have kj66 : ∀ (m65 : Int32), m65 = (if r64 = 0 then 0 else 1) → K 266 [] [vI m65] T63 := by
                          intro m65 em65
                          replace hw := hw m65 em65
                          exact t_zret C dX1_readNode_266 (bz_n hw.1) ⟨_, rfl, hw.2⟩
                        refine t_if_eq C 265 261 dX1_readNode_258 rfl rfl (fun hc67 => ?_) (fun hc67 => ?_)
                        · refine t_b C (pc' := 266) (L' := [(0, vA (some o)), (2, vI p1), (4, vI r5), (5, vI (T4.s 251)), (6, vI s59)]) (st' := [vI 0]) [(.iconst 0, 1)] ⟨dX1_readNode_265, rfl⟩ rfl ?_
                          refine t_sub C (L' := []) [] rfl ?_
                          exact kj66 _ ((if_pos hc67).symm)
                        · refine t_b C (pc' := 262) (L' := [(0, vA (some o)), (2, vI p1), (4, vI r5), (5, vI (T4.s 251)), (6, vI s59)]) (st' := [vI 1]) [(.iconst 1, 1)] ⟨dX1_readNode_261, rfl⟩ rfl ?_
                          refine t_goto C 266 dX1_readNode_262 rfl ?_
                          refine t_sub C (L' := []) [] rfl ?_
                          exact kj66 _ ((if_neg hc67).symm)
                    · replace hw := hw.2 hc61
                      refine t_b C (pc' := 188) (L' := [(0, vA (some o)), (2, vI p1), (4, vI r5), (5, vI (T4.s 251)), (6, vI s59)]) (st' := [vI s59, vA (some o)]) [(.aload_n 0, 1), (.iload 6, 2)] ⟨dX1_readNode_185, dX1_readNode_186, rfl⟩ rfl ?_
                      have kj69 : ∀ (m68 : Int32), m68 = (if s59 = 0 then 40 else 44) → K 198 [(0, vA (some o)), (2, vI p1), (4, vI r5), (5, vI (T4.s 251)), (6, vI s59)] [vI m68, vA (some o)] T60 := by
                        intro m68 em68
                        replace hw := hw m68 em68
                        refine t_callVI C 201 [vI m68] [] dX1_readNode_198 rfl (ok_X1_eats hG hw) q2497 q2499 qs80 q159 q2500 hd_X1_eats ⟨Nat.ble_eq_true_of_le (by omega), Nat.ble_eq_true_of_le (by omega), rfl⟩ (fun r71 T70 hw => ?_)
                        refine t_if_eq C 231 204 dX1_readNode_201 rfl rfl (fun hc72 => ?_) (fun hc72 => ?_)
                        · replace hw := hw.1 hc72
                          refine t_b C (pc' := 232) (L' := [(0, vA (some o)), (2, vI p1), (4, vI r5), (5, vI (T4.s 251)), (6, vI s59)]) (st' := [vI 0]) [(.iconst 0, 1)] ⟨dX1_readNode_231, rfl⟩ rfl ?_
                          exact t_zret C dX1_readNode_232 rfl ⟨_, rfl, hw⟩
                        · replace hw := hw.2 hc72
                          refine t_b C (pc' := 206) (L' := [(0, vA (some o)), (2, vI p1), (4, vI r5), (5, vI (T4.s 251)), (6, vI s59)]) (st' := [vA (some o), vA (some o)]) [(.aload_n 0, 1), (.aload_n 0, 1)] ⟨dX1_readNode_204, dX1_readNode_205, rfl⟩ rfl ?_
                          refine t_gA C 201 1 209 dX1_readNode_206 rfl rfl rfl rfl rfl q2189 (fun _ _ _ => rfl) ?_
                          refine t_b C (pc' := 219) (L' := [(0, vA (some o)), (2, vI p1), (4, vI r5), (5, vI (T4.s 251)), (6, vI s59)]) (st' := [vI ((44 + (3 * r5)) + s59), vA (some (o + 1 + 1)), vA (some o)]) [(.bipush 44, 2), (.iconst 3, 1), (.iload 4, 2), (.imul, 1), (.iadd, 1), (.iload 6, 2), (.iadd, 1)] ⟨dX1_readNode_209, dX1_readNode_211, dX1_readNode_212, dX1_readNode_214, dX1_readNode_215, dX1_readNode_216, dX1_readNode_218, rfl⟩ rfl ?_
                          refine t_iald C 220 dX1_readNode_219 rfl hw.1 ?_
                          replace hw := hw.2
                          refine t_b C (pc' := 225) (L' := [(0, vA (some o)), (2, vI p1), (4, vI r5), (5, vI (T4.s 251)), (6, vI s59)]) (st' := [vI (T4.s 251), vI (p1 + 1), vI (T70.a 1 (ni ((44 + (3 * r5)) + s59))), vA (some o)]) [(.iload_n 2, 1), (.iconst 1, 1), (.iadd, 1), (.iload 5, 2)] ⟨dX1_readNode_220, dX1_readNode_221, dX1_readNode_222, dX1_readNode_223, rfl⟩ rfl ?_
                          refine t_callVI C 228 [vI (T70.a 1 (ni ((44 + (3 * r5)) + s59))), vI (p1 + 1), vI (T4.s 251)] [] dX1_readNode_225 rfl (ih hw) q2762 q2764 qs130 q159 q2765 hd_X1_readNode ⟨Nat.ble_eq_true_of_le (by omega), Nat.ble_eq_true_of_le (by omega), rfl⟩ (fun r74 T73 hw => ?_)
                          refine t_if_ne C 233 231 dX1_readNode_228 rfl rfl (fun hc75 => ?_) (fun hc75 => ?_)
                          · replace hw := hw.2 hc75
                            refine t_b C (pc' := 236) (L' := [(6, vI (s59 + 1)), (0, vA (some o)), (2, vI p1), (4, vI r5), (5, vI (T4.s 251))]) (st' := []) [(.iinc 6 1, 3)] ⟨dX1_readNode_233, rfl⟩ rfl ?_
                            refine t_goto C 170 dX1_readNode_236 rfl ?_
                            refine t_sub C (L' := [(0, vA (some o)), (2, vI p1), (4, vI r5), (5, vI (T4.s 251)), (6, vI (s59 + 1))]) [1, 2, 3, 4, 0] rfl ?_
                            obtain ⟨m9, hm9, hw⟩ := hw
                            exact ih59 m9 hm9 (s59 + 1) T73 hw
                          · replace hw := hw.1 hc75
                            refine t_b C (pc' := 232) (L' := [(0, vA (some o)), (2, vI p1), (4, vI r5), (5, vI (T4.s 251)), (6, vI s59)]) (st' := [vI 0]) [(.iconst 0, 1)] ⟨dX1_readNode_231, rfl⟩ rfl ?_
                            exact t_zret C dX1_readNode_232 rfl ⟨_, rfl, hw⟩
                      refine t_if_ne C 196 191 dX1_readNode_188 rfl rfl (fun hc76 => ?_) (fun hc76 => ?_)
                      · refine t_b C (pc' := 198) (L' := [(0, vA (some o)), (2, vI p1), (4, vI r5), (5, vI (T4.s 251)), (6, vI s59)]) (st' := [vI 44, vA (some o)]) [(.bipush 44, 2)] ⟨dX1_readNode_196, rfl⟩ rfl ?_
                        refine t_sub C (L' := [(0, vA (some o)), (2, vI p1), (4, vI r5), (5, vI (T4.s 251)), (6, vI s59)]) [0, 1, 2, 3, 4] rfl ?_
                        exact kj69 _ ((if_neg hc76).symm)
                      · refine t_b C (pc' := 193) (L' := [(0, vA (some o)), (2, vI p1), (4, vI r5), (5, vI (T4.s 251)), (6, vI s59)]) (st' := [vI 40, vA (some o)]) [(.bipush 40, 2)] ⟨dX1_readNode_191, rfl⟩ rfl ?_
                        refine t_goto C 198 dX1_readNode_193 rfl ?_
                        refine t_sub C (L' := [(0, vA (some o)), (2, vI p1), (4, vI r5), (5, vI (T4.s 251)), (6, vI s59)]) [0, 1, 2, 3, 4] rfl ?_
                        exact kj69 _ ((if_pos hc76).symm)
                exact key59 n59 0 T58 hI59
              refine t_icmp_ne C 167 152 dX1_readNode_149 rfl rfl (fun hc53 => ?_) (fun hc53 => ?_)
              · replace hw := hw.2 hc53
                refine t_sub C (L' := [(0, vA (some o)), (2, vI p1), (4, vI r5), (5, vI (T4.s 251))]) [2, 4, 1, 0] rfl ?_
                exact kj51 () T49 hw
              · replace hw := hw.1 hc53
                refine t_b C (pc' := 153) (L' := [(5, vI (T4.s 251)), (4, vI r5), (0, vA (some o)), (1, vI p0), (2, vI p1), (3, vI p2)]) (st' := [vA (some o)]) [(.aload_n 0, 1)] ⟨dX1_readNode_152, rfl⟩ rfl ?_
                refine t_gA C 247 23 156 dX1_readNode_153 rfl rfl rfl rfl rfl q2235 (fun _ _ _ => rfl) ?_
                refine t_b C (pc' := 159) (L' := [(5, vI (T4.s 251)), (4, vI r5), (0, vA (some o)), (1, vI p0), (2, vI p1), (3, vI p2)]) (st' := [vA (some o), vI (T4.s 251), vA (some (o + 1 + 23))]) [(.iload 5, 2), (.aload_n 0, 1)] ⟨dX1_readNode_156, dX1_readNode_158, rfl⟩ rfl ?_
                refine t_gI C 214 162 dX1_readNode_159 rfl rfl rfl q2202 (fun _ _ _ => rfl) ?_
                refine t_iast C 163 dX1_readNode_162 rfl hw.1 (fun T54 eT54 => ?_)
                replace hw := hw.2 T54 eT54
                refine t_b C (pc' := 164) (L' := [(5, vI (T4.s 251)), (4, vI r5), (0, vA (some o)), (1, vI p0), (2, vI p1), (3, vI p2)]) (st' := [vA (some o)]) [(.aload_n 0, 1)] ⟨dX1_readNode_163, rfl⟩ rfl ?_
                refine t_callVV C 167 [] [] dX1_readNode_164 rfl (ok_X1_go hG hw) q2442 q2444 qs72 q159 q2445 hd_X1_go ⟨Nat.ble_eq_true_of_le (by omega), Nat.ble_eq_true_of_le (by omega), rfl⟩ (fun T55 hw => ?_)
                refine t_sub C (L' := [(0, vA (some o)), (2, vI p1), (4, vI r5), (5, vI (T4.s 251))]) [2, 4, 1, 0] rfl ?_
                exact kj51 () T55 hw
            · replace hw := hw.2 hc44
              refine t_b C (pc' := 95) (L' := [(4, vI r5), (0, vA (some o)), (1, vI p0), (2, vI p1), (3, vI p2)]) (st' := [vI 7, vA (some o)]) [(.aload_n 0, 1), (.bipush 7, 2)] ⟨dX1_readNode_92, dX1_readNode_93, rfl⟩ rfl ?_
              refine t_callVI C 98 [vI 7] [] dX1_readNode_95 rfl (ok_X1_bad hG hw) q2479 q2481 qs77 q159 q2482 hd_X1_bad ⟨Nat.ble_eq_true_of_le (by omega), Nat.ble_eq_true_of_le (by omega), rfl⟩ (fun r78 T77 hw => ?_)
              exact t_zret C dX1_readNode_98 (bz_n hw.1) ⟨_, rfl, hw.2⟩
        · replace hw := hw.2 hc10
          refine t_b C (pc' := 69) (L' := [(4, vI r5), (0, vA (some o)), (1, vI p0), (2, vI p1), (3, vI p2)]) (st' := [vI 6, vA (some o)]) [(.aload_n 0, 1), (.bipush 6, 2)] ⟨dX1_readNode_66, dX1_readNode_67, rfl⟩ rfl ?_
          refine t_callVI C 72 [vI 6] [] dX1_readNode_69 rfl (ok_X1_bad hG hw) q2479 q2481 qs77 q159 q2482 hd_X1_bad ⟨Nat.ble_eq_true_of_le (by omega), Nat.ble_eq_true_of_le (by omega), rfl⟩ (fun r80 T79 hw => ?_)
          exact t_zret C dX1_readNode_72 (bz_n hw.1) ⟨_, rfl, hw.2⟩
    · replace hw := hw.1 hc6
      refine t_b C (pc' := 42) (L' := [(4, vI r5), (0, vA (some o)), (1, vI p0), (2, vI p1), (3, vI p2)]) (st' := [vI 3, vA (some o)]) [(.aload_n 0, 1), (.iconst 3, 1)] ⟨dX1_readNode_40, dX1_readNode_41, rfl⟩ rfl ?_
      refine t_callVI C 45 [vI 3] [] dX1_readNode_42 rfl (ok_X1_bad hG hw) q2479 q2481 qs77 q159 q2482 hd_X1_bad ⟨Nat.ble_eq_true_of_le (by omega), Nat.ble_eq_true_of_le (by omega), rfl⟩ (fun r82 T81 hw => ?_)
      exact t_zret C dX1_readNode_45 (bz_n hw.1) ⟨_, rfl, hw.2⟩
  · replace hw := hw.1 hc3
    refine t_b C (pc' := 9) (L' := [(0, vA (some o)), (1, vI p0), (2, vI p1), (3, vI p2)]) (st' := [vI 2, vA (some o)]) [(.aload_n 0, 1), (.iconst 2, 1)] ⟨dX1_readNode_7, dX1_readNode_8, rfl⟩ rfl ?_
    refine t_callVI C 12 [vI 2] [] dX1_readNode_9 rfl (ok_X1_bad hG hw) q2479 q2481 qs77 q159 q2482 hd_X1_bad ⟨Nat.ble_eq_true_of_le (by omega), Nat.ble_eq_true_of_le (by omega), rfl⟩ (fun r84 T83 hw => ?_)
    exact t_zret C dX1_readNode_12 (bz_n hw.1) ⟨_, rfl, hw.2⟩
def wp_X1_readTree (p0 : Int32) (p1 : Int32) (p2 : Int32) (T : TS) (Q : Int32 → TS → Prop) : Prop :=
  wp_X1_begins p0 T fun T1 =>
  ∀ T3, T3 = T1.ss 251 0 →
  wp_X1_readNode 16 p1 p2 (-1) T3 fun r5 T4 =>
  ((r5 = 0 →
  Q 0 T4) ∧ (¬ r5 = 0 →
  (((T4.s 213) = 0 →
  Q 1 T4) ∧ (¬ (T4.s 213) = 0 →
  wp_X1_bad 2 T4 fun r9 T8 =>
  ∀ m10 : Int32, m10 = (if r9 = 0 then 0 else 1) →
  bz m10 ∧ Q m10 T8))))
theorem hd_X1_readTree : yX1_readTree.cls = RX1 ∧ yX1_readTree.cls ≠ "java/lang/invoke/MethodHandle" ∧ yX1_readTree.cls ≠ "java/lang/invoke/VarHandle" ∧ (parseMethodDescriptor yX1_readTree.desc).map (fun d => d.parameters.length) = some 3 := by decide +kernel
theorem ok_X1_readTree {l : Launch} {D : va_G} {s0 : S0} (hG : G0 D s0) {o : Nat} {p0 : Int32} {p1 : Int32} {p2 : Int32} {T : TS} {Q : Int32 → TS → Prop} (hw : wp_X1_readTree p0 p1 p2 T Q) : OKt l D s0 o yX1_readTree cX1_readTree 4 (some .boolean) 20 510 [vA (some o), vI p0, vI p1, vI p2] T (TI Q) := by
  refine t_met hG rfl rfl (L0 := [(0, vA (some o)), (1, vI p0), (2, vI p1), (3, vI p2)]) rfl rfl ?_
  intro h K C
  unfold wp_X1_readTree at hw
  refine t_b C (pc' := 2) (L' := [(0, vA (some o)), (1, vI p0), (2, vI p1), (3, vI p2)]) (st' := [vI p0, vA (some o)]) [(.aload_n 0, 1), (.iload_n 1, 1)] ⟨dX1_readTree_0, dX1_readTree_1, rfl⟩ rfl ?_
  refine t_callVV C 5 [vI p0] [] dX1_readTree_2 rfl (ok_X1_begins hG hw) q2438 q2440 qs71 q159 q2441 hd_X1_begins ⟨rfl, rfl, rfl⟩ (fun T1 hw => ?_)
  refine t_b C (pc' := 7) (L' := [(0, vA (some o)), (1, vI p0), (2, vI p1), (3, vI p2)]) (st' := [vI 0, vA (some o)]) [(.aload_n 0, 1), (.iconst 0, 1)] ⟨dX1_readTree_5, dX1_readTree_6, rfl⟩ rfl ?_
  refine t_pI C 251 10 dX1_readTree_7 rfl rfl rfl rfl q2239 (fun _ _ _ => rfl) rfl rfl (fun T3 eT3 => ?_)
  replace hw := hw T3 eT3
  refine t_b C (pc' := 14) (L' := [(0, vA (some o)), (1, vI p0), (2, vI p1), (3, vI p2)]) (st' := [vI (-1), vI p2, vI p1, vA (some o)]) [(.aload_n 0, 1), (.iload_n 2, 1), (.iload_n 3, 1), (.iconst (-1), 1)] ⟨dX1_readTree_10, dX1_readTree_11, dX1_readTree_12, dX1_readTree_13, rfl⟩ rfl ?_
  refine t_callVI C 17 [vI p1, vI p2, vI (-1)] [] dX1_readTree_14 rfl (ok_X1_readNode hG 16 hw) q2762 q2764 qs130 q159 q2765 hd_X1_readNode ⟨rfl, rfl, rfl⟩ (fun r5 T4 hw => ?_)
  refine t_if_eq C 39 20 dX1_readTree_17 rfl rfl (fun hc6 => ?_) (fun hc6 => ?_)
  · replace hw := hw.1 hc6
    refine t_b C (pc' := 40) (L' := [(0, vA (some o)), (1, vI p0), (2, vI p1), (3, vI p2)]) (st' := [vI 0]) [(.iconst 0, 1)] ⟨dX1_readTree_39, rfl⟩ rfl ?_
    exact t_zret C dX1_readTree_40 rfl ⟨_, rfl, hw⟩
  · replace hw := hw.2 hc6
    refine t_b C (pc' := 21) (L' := [(0, vA (some o)), (1, vI p0), (2, vI p1), (3, vI p2)]) (st' := [vA (some o)]) [(.aload_n 0, 1)] ⟨dX1_readTree_20, rfl⟩ rfl ?_
    refine t_gI C 213 24 dX1_readTree_21 rfl rfl rfl q2201 (fun _ _ _ => rfl) ?_
    refine t_if_eq C 35 27 dX1_readTree_24 rfl rfl (fun hc7 => ?_) (fun hc7 => ?_)
    · replace hw := hw.1 hc7
      refine t_b C (pc' := 36) (L' := [(0, vA (some o)), (1, vI p0), (2, vI p1), (3, vI p2)]) (st' := [vI 1]) [(.iconst 1, 1)] ⟨dX1_readTree_35, rfl⟩ rfl ?_
      refine t_goto C 40 dX1_readTree_36 rfl ?_
      exact t_zret C dX1_readTree_40 rfl ⟨_, rfl, hw⟩
    · replace hw := hw.2 hc7
      refine t_b C (pc' := 29) (L' := [(0, vA (some o)), (1, vI p0), (2, vI p1), (3, vI p2)]) (st' := [vI 2, vA (some o)]) [(.aload_n 0, 1), (.iconst 2, 1)] ⟨dX1_readTree_27, dX1_readTree_28, rfl⟩ rfl ?_
      refine t_callVI C 32 [vI 2] [] dX1_readTree_29 rfl (ok_X1_bad hG hw) q2479 q2481 qs77 q159 q2482 hd_X1_bad ⟨rfl, rfl, rfl⟩ (fun r9 T8 hw => ?_)
      have kj11 : ∀ (m10 : Int32), m10 = (if r9 = 0 then 0 else 1) → K 40 [] [vI m10] T8 := by
        intro m10 em10
        replace hw := hw m10 em10
        exact t_zret C dX1_readTree_40 (bz_n hw.1) ⟨_, rfl, hw.2⟩
      refine t_if_eq C 39 35 dX1_readTree_32 rfl rfl (fun hc12 => ?_) (fun hc12 => ?_)
      · refine t_b C (pc' := 40) (L' := [(0, vA (some o)), (1, vI p0), (2, vI p1), (3, vI p2)]) (st' := [vI 0]) [(.iconst 0, 1)] ⟨dX1_readTree_39, rfl⟩ rfl ?_
        refine t_sub C (L' := []) [] rfl ?_
        exact kj11 _ ((if_pos hc12).symm)
      · refine t_b C (pc' := 36) (L' := [(0, vA (some o)), (1, vI p0), (2, vI p1), (3, vI p2)]) (st' := [vI 1]) [(.iconst 1, 1)] ⟨dX1_readTree_35, rfl⟩ rfl ?_
        refine t_goto C 40 dX1_readTree_36 rfl ?_
        refine t_sub C (L' := []) [] rfl ?_
        exact kj11 _ ((if_neg hc12).symm)
def wp_X1_sizeOf (p0 : Int32) (T : TS) (Q : Int32 → TS → Prop) : Prop :=
  tlp (σ := Int32) (fun s1 T2 k1 =>
  (((T2.s 250) ≤ (p0 + s1) →
  Q s1 T2) ∧ (¬ (T2.s 250) ≤ (p0 + s1) →
  tix 21 40 (p0 + s1) ∧
  (((T2.a 21 (ni (p0 + s1))) < p0 →
  Q s1 T2) ∧ (¬ (T2.a 21 (ni (p0 + s1))) < p0 →
  k1 (s1 + 1) T2))))) 1 T
theorem hd_X1_sizeOf : yX1_sizeOf.cls = RX1 ∧ yX1_sizeOf.cls ≠ "java/lang/invoke/MethodHandle" ∧ yX1_sizeOf.cls ≠ "java/lang/invoke/VarHandle" ∧ (parseMethodDescriptor yX1_sizeOf.desc).map (fun d => d.parameters.length) = some 1 := by decide +kernel
theorem ok_X1_sizeOf {l : Launch} {D : va_G} {s0 : S0} (hG : G0 D s0) {o : Nat} {p0 : Int32} {T : TS} {Q : Int32 → TS → Prop} (hw : wp_X1_sizeOf p0 T Q) : OKt l D s0 o yX1_sizeOf cX1_sizeOf 3 (some .int) 0 0 [vA (some o), vI p0] T (TI Q) := by
  refine t_met hG rfl rfl (L0 := [(0, vA (some o)), (1, vI p0)]) rfl rfl ?_
  intro h K C
  unfold wp_X1_sizeOf at hw
  refine t_b C (pc' := 2) (L' := [(2, vI 1), (0, vA (some o)), (1, vI p0)]) (st' := []) [(.iconst 1, 1), (.istore_n 2, 1)] ⟨dX1_sizeOf_0, dX1_sizeOf_1, rfl⟩ rfl ?_
  obtain ⟨I1, ⟨n1, hI1⟩, hB1⟩ := tlp.out hw
  refine t_sub C (L' := [(0, vA (some o)), (1, vI p0), (2, vI 1)]) [1, 2, 0] rfl ?_
  have key1 : ∀ (n : Nat) (s1 : Int32) (T2 : TS), I1 n s1 T2 → K 2 [(0, vA (some o)), (1, vI p0), (2, vI s1)] [] T2 := by
    intro n
    induction n using Nat.strongRecOn with
    | ind n ih1 =>
      intro s1 T2 hI
      replace hw := hB1 n s1 T2 hI
      refine t_b C (pc' := 6) (L' := [(0, vA (some o)), (1, vI p0), (2, vI s1)]) (st' := [vA (some o), vI (p0 + s1)]) [(.iload_n 1, 1), (.iload_n 2, 1), (.iadd, 1), (.aload_n 0, 1)] ⟨dX1_sizeOf_2, dX1_sizeOf_3, dX1_sizeOf_4, dX1_sizeOf_5, rfl⟩ rfl ?_
      refine t_gI C 250 9 dX1_sizeOf_6 rfl rfl rfl q2238 (fun _ _ _ => rfl) ?_
      refine t_icmp_ge C 30 12 dX1_sizeOf_9 rfl rfl (fun hc3 => ?_) (fun hc3 => ?_)
      · replace hw := hw.1 hc3
        refine t_b C (pc' := 31) (L' := [(0, vA (some o)), (1, vI p0), (2, vI s1)]) (st' := [vI s1]) [(.iload_n 2, 1)] ⟨dX1_sizeOf_30, rfl⟩ rfl ?_
        exact t_iret C dX1_sizeOf_31 ⟨_, rfl, hw⟩
      · replace hw := hw.2 hc3
        refine t_b C (pc' := 13) (L' := [(0, vA (some o)), (1, vI p0), (2, vI s1)]) (st' := [vA (some o)]) [(.aload_n 0, 1)] ⟨dX1_sizeOf_12, rfl⟩ rfl ?_
        refine t_gA C 245 21 16 dX1_sizeOf_13 rfl rfl rfl rfl rfl q2233 (fun _ _ _ => rfl) ?_
        refine t_b C (pc' := 19) (L' := [(0, vA (some o)), (1, vI p0), (2, vI s1)]) (st' := [vI (p0 + s1), vA (some (o + 1 + 21))]) [(.iload_n 1, 1), (.iload_n 2, 1), (.iadd, 1)] ⟨dX1_sizeOf_16, dX1_sizeOf_17, dX1_sizeOf_18, rfl⟩ rfl ?_
        refine t_iald C 20 dX1_sizeOf_19 rfl hw.1 ?_
        replace hw := hw.2
        refine t_b C (pc' := 21) (L' := [(0, vA (some o)), (1, vI p0), (2, vI s1)]) (st' := [vI p0, vI (T2.a 21 (ni (p0 + s1)))]) [(.iload_n 1, 1)] ⟨dX1_sizeOf_20, rfl⟩ rfl ?_
        refine t_icmp_lt C 30 24 dX1_sizeOf_21 rfl rfl (fun hc4 => ?_) (fun hc4 => ?_)
        · replace hw := hw.1 hc4
          refine t_b C (pc' := 31) (L' := [(0, vA (some o)), (1, vI p0), (2, vI s1)]) (st' := [vI s1]) [(.iload_n 2, 1)] ⟨dX1_sizeOf_30, rfl⟩ rfl ?_
          exact t_iret C dX1_sizeOf_31 ⟨_, rfl, hw⟩
        · replace hw := hw.2 hc4
          refine t_b C (pc' := 27) (L' := [(2, vI (s1 + 1)), (0, vA (some o)), (1, vI p0)]) (st' := []) [(.iinc 2 1, 3)] ⟨dX1_sizeOf_24, rfl⟩ rfl ?_
          refine t_goto C 2 dX1_sizeOf_27 rfl ?_
          refine t_sub C (L' := [(0, vA (some o)), (1, vI p0), (2, vI (s1 + 1))]) [1, 2, 0] rfl ?_
          obtain ⟨m9, hm9, hw⟩ := hw
          exact ih1 m9 hm9 (s1 + 1) T2 hw
  exact key1 n1 1 T hI1
def wp_X1_wasTied (p0 : Int32) (p1 : Int32) (p2 : Int32) (T : TS) (Q : Int32 → TS → Prop) : Prop :=
  tix 29 40 p0 ∧
  (((T.a 29 (ni p0)) = (-1) →
  Q 0 T) ∧ (¬ (T.a 29 (ni p0)) = (-1) →
  tlp (σ := Int32) (fun s2 T3 k2 =>
  (((8 * (p1 + p2)) ≤ s2 →
  Q 0 T3) ∧ (¬ (8 * (p1 + p2)) ≤ s2 →
  tix 36 42 s2 ∧
  (((T3.a 36 (ni s2)) = 0 →
  k2 (s2 + 1) T3) ∧ (¬ (T3.a 36 (ni s2)) = 0 →
  tix 29 40 s2 ∧
  tix 29 40 p0 ∧
  (((T3.a 29 (ni s2)) = (T3.a 29 (ni p0)) →
  Q 1 T3) ∧ (¬ (T3.a 29 (ni s2)) = (T3.a 29 (ni p0)) →
  k2 (s2 + 1) T3))))))) (8 * p1) T))
theorem hd_X1_wasTied : yX1_wasTied.cls = RX1 ∧ yX1_wasTied.cls ≠ "java/lang/invoke/MethodHandle" ∧ yX1_wasTied.cls ≠ "java/lang/invoke/VarHandle" ∧ (parseMethodDescriptor yX1_wasTied.desc).map (fun d => d.parameters.length) = some 3 := by decide +kernel
theorem ok_X1_wasTied {l : Launch} {D : va_G} {s0 : S0} (hG : G0 D s0) {o : Nat} {p0 : Int32} {p1 : Int32} {p2 : Int32} {T : TS} {Q : Int32 → TS → Prop} (hw : wp_X1_wasTied p0 p1 p2 T Q) : OKt l D s0 o yX1_wasTied cX1_wasTied 5 (some .boolean) 0 0 [vA (some o), vI p0, vI p1, vI p2] T (TI Q) := by
  refine t_met hG rfl rfl (L0 := [(0, vA (some o)), (1, vI p0), (2, vI p1), (3, vI p2)]) rfl rfl ?_
  intro h K C
  unfold wp_X1_wasTied at hw
  refine t_b C (pc' := 1) (L' := [(0, vA (some o)), (1, vI p0), (2, vI p1), (3, vI p2)]) (st' := [vA (some o)]) [(.aload_n 0, 1)] ⟨dX1_wasTied_0, rfl⟩ rfl ?_
  refine t_gA C 259 29 4 dX1_wasTied_1 rfl rfl rfl rfl rfl q2247 (fun _ _ _ => rfl) ?_
  refine t_b C (pc' := 5) (L' := [(0, vA (some o)), (1, vI p0), (2, vI p1), (3, vI p2)]) (st' := [vI p0, vA (some (o + 1 + 29))]) [(.iload_n 1, 1)] ⟨dX1_wasTied_4, rfl⟩ rfl ?_
  refine t_iald C 6 dX1_wasTied_5 rfl hw.1 ?_
  replace hw := hw.2
  refine t_b C (pc' := 7) (L' := [(0, vA (some o)), (1, vI p0), (2, vI p1), (3, vI p2)]) (st' := [vI (-1), vI (T.a 29 (ni p0))]) [(.iconst (-1), 1)] ⟨dX1_wasTied_6, rfl⟩ rfl ?_
  refine t_icmp_ne C 12 10 dX1_wasTied_7 rfl rfl (fun hc1 => ?_) (fun hc1 => ?_)
  · replace hw := hw.2 hc1
    refine t_b C (pc' := 18) (L' := [(4, vI (8 * p1)), (0, vA (some o)), (1, vI p0), (2, vI p1), (3, vI p2)]) (st' := []) [(.bipush 8, 2), (.iload_n 2, 1), (.imul, 1), (.istore 4, 2)] ⟨dX1_wasTied_12, dX1_wasTied_14, dX1_wasTied_15, dX1_wasTied_16, rfl⟩ rfl ?_
    obtain ⟨I2, ⟨n2, hI2⟩, hB2⟩ := tlp.out hw
    refine t_sub C (L' := [(0, vA (some o)), (1, vI p0), (2, vI p1), (3, vI p2), (4, vI (8 * p1))]) [1, 2, 3, 4, 0] rfl ?_
    have key2 : ∀ (n : Nat) (s2 : Int32) (T3 : TS), I2 n s2 T3 → K 18 [(0, vA (some o)), (1, vI p0), (2, vI p1), (3, vI p2), (4, vI s2)] [] T3 := by
      intro n
      induction n using Nat.strongRecOn with
      | ind n ih2 =>
        intro s2 T3 hI
        replace hw := hB2 n s2 T3 hI
        refine t_b C (pc' := 26) (L' := [(0, vA (some o)), (1, vI p0), (2, vI p1), (3, vI p2), (4, vI s2)]) (st' := [vI (8 * (p1 + p2)), vI s2]) [(.iload 4, 2), (.bipush 8, 2), (.iload_n 2, 1), (.iload_n 3, 1), (.iadd, 1), (.imul, 1)] ⟨dX1_wasTied_18, dX1_wasTied_20, dX1_wasTied_22, dX1_wasTied_23, dX1_wasTied_24, dX1_wasTied_25, rfl⟩ rfl ?_
        refine t_icmp_ge C 63 29 dX1_wasTied_26 rfl rfl (fun hc4 => ?_) (fun hc4 => ?_)
        · replace hw := hw.1 hc4
          refine t_b C (pc' := 64) (L' := [(0, vA (some o)), (1, vI p0), (2, vI p1), (3, vI p2), (4, vI s2)]) (st' := [vI 0]) [(.iconst 0, 1)] ⟨dX1_wasTied_63, rfl⟩ rfl ?_
          exact t_zret C dX1_wasTied_64 rfl ⟨_, rfl, hw⟩
        · replace hw := hw.2 hc4
          refine t_b C (pc' := 30) (L' := [(0, vA (some o)), (1, vI p0), (2, vI p1), (3, vI p2), (4, vI s2)]) (st' := [vA (some o)]) [(.aload_n 0, 1)] ⟨dX1_wasTied_29, rfl⟩ rfl ?_
          refine t_gA C 266 36 33 dX1_wasTied_30 rfl rfl rfl rfl rfl q2254 (fun _ _ _ => rfl) ?_
          refine t_b C (pc' := 35) (L' := [(0, vA (some o)), (1, vI p0), (2, vI p1), (3, vI p2), (4, vI s2)]) (st' := [vI s2, vA (some (o + 1 + 36))]) [(.iload 4, 2)] ⟨dX1_wasTied_33, rfl⟩ rfl ?_
          refine t_zald C 36 dX1_wasTied_35 rfl hw.1 ?_
          replace hw := hw.2
          refine t_if_eq C 57 39 dX1_wasTied_36 rfl rfl (fun hc5 => ?_) (fun hc5 => ?_)
          · replace hw := hw.1 hc5
            refine t_b C (pc' := 60) (L' := [(4, vI (s2 + 1)), (0, vA (some o)), (1, vI p0), (2, vI p1), (3, vI p2)]) (st' := []) [(.iinc 4 1, 3)] ⟨dX1_wasTied_57, rfl⟩ rfl ?_
            refine t_goto C 18 dX1_wasTied_60 rfl ?_
            refine t_sub C (L' := [(0, vA (some o)), (1, vI p0), (2, vI p1), (3, vI p2), (4, vI (s2 + 1))]) [1, 2, 3, 4, 0] rfl ?_
            obtain ⟨m9, hm9, hw⟩ := hw
            exact ih2 m9 hm9 (s2 + 1) T3 hw
          · replace hw := hw.2 hc5
            refine t_b C (pc' := 40) (L' := [(0, vA (some o)), (1, vI p0), (2, vI p1), (3, vI p2), (4, vI s2)]) (st' := [vA (some o)]) [(.aload_n 0, 1)] ⟨dX1_wasTied_39, rfl⟩ rfl ?_
            refine t_gA C 259 29 43 dX1_wasTied_40 rfl rfl rfl rfl rfl q2247 (fun _ _ _ => rfl) ?_
            refine t_b C (pc' := 45) (L' := [(0, vA (some o)), (1, vI p0), (2, vI p1), (3, vI p2), (4, vI s2)]) (st' := [vI s2, vA (some (o + 1 + 29))]) [(.iload 4, 2)] ⟨dX1_wasTied_43, rfl⟩ rfl ?_
            refine t_iald C 46 dX1_wasTied_45 rfl hw.1 ?_
            replace hw := hw.2
            refine t_b C (pc' := 47) (L' := [(0, vA (some o)), (1, vI p0), (2, vI p1), (3, vI p2), (4, vI s2)]) (st' := [vA (some o), vI (T3.a 29 (ni s2))]) [(.aload_n 0, 1)] ⟨dX1_wasTied_46, rfl⟩ rfl ?_
            refine t_gA C 259 29 50 dX1_wasTied_47 rfl rfl rfl rfl rfl q2247 (fun _ _ _ => rfl) ?_
            refine t_b C (pc' := 51) (L' := [(0, vA (some o)), (1, vI p0), (2, vI p1), (3, vI p2), (4, vI s2)]) (st' := [vI p0, vA (some (o + 1 + 29)), vI (T3.a 29 (ni s2))]) [(.iload_n 1, 1)] ⟨dX1_wasTied_50, rfl⟩ rfl ?_
            refine t_iald C 52 dX1_wasTied_51 rfl hw.1 ?_
            replace hw := hw.2
            refine t_icmp_ne C 57 55 dX1_wasTied_52 rfl rfl (fun hc6 => ?_) (fun hc6 => ?_)
            · replace hw := hw.2 hc6
              refine t_b C (pc' := 60) (L' := [(4, vI (s2 + 1)), (0, vA (some o)), (1, vI p0), (2, vI p1), (3, vI p2)]) (st' := []) [(.iinc 4 1, 3)] ⟨dX1_wasTied_57, rfl⟩ rfl ?_
              refine t_goto C 18 dX1_wasTied_60 rfl ?_
              refine t_sub C (L' := [(0, vA (some o)), (1, vI p0), (2, vI p1), (3, vI p2), (4, vI (s2 + 1))]) [1, 2, 3, 4, 0] rfl ?_
              obtain ⟨m9, hm9, hw⟩ := hw
              exact ih2 m9 hm9 (s2 + 1) T3 hw
            · replace hw := hw.1 hc6
              refine t_b C (pc' := 56) (L' := [(0, vA (some o)), (1, vI p0), (2, vI p1), (3, vI p2), (4, vI s2)]) (st' := [vI 1]) [(.iconst 1, 1)] ⟨dX1_wasTied_55, rfl⟩ rfl ?_
              exact t_zret C dX1_wasTied_56 rfl ⟨_, rfl, hw⟩
    exact key2 n2 (8 * p1) T hI2
  · replace hw := hw.1 hc1
    refine t_b C (pc' := 11) (L' := [(0, vA (some o)), (1, vI p0), (2, vI p1), (3, vI p2)]) (st' := [vI 0]) [(.iconst 0, 1)] ⟨dX1_wasTied_10, rfl⟩ rfl ?_
    exact t_zret C dX1_wasTied_11 rfl ⟨_, rfl, hw⟩
def wp_X1_graft (p0 : Int32) (p1 : Int32) (T : TS) (Q : Int32 → TS → Prop) : Prop :=
  wp_X1_isFrom p1 0 (T.s 205) T fun r2 T1 =>
  ((r2 = 0 →
  wp_X1_refuse 1 T1 fun r78 T77 =>
  Q r78 T77) ∧ (¬ r2 = 0 →
  wp_X1_hasTree  T1 fun r5 T4 =>
  ((r5 = 0 →
  wp_X1_refuse 3 T4 fun r76 T75 =>
  Q r76 T75) ∧ (¬ r5 = 0 →
  wp_X1_isNode p0 T4 fun r8 T7 =>
  ((r8 = 0 →
  wp_X1_refuse 4 T7 fun r74 T73 =>
  Q r74 T73) ∧ (¬ r8 = 0 →
  wp_X1_sizeOf p0 T7 fun r11 T10 =>
  ∀ T12, T12 = T10.ss 252 ((T10.s 250) - r11) →
  wp_X1_symbolOf p0 T12 fun r14 T13 =>
  wp_X1_depthOf 16 p0 T13 fun r16 T15 =>
  wp_X1_readTree p1 r14 (r16 + 1) T15 fun r18 T17 =>
  wp_X1_ends r18 T17 fun r20 T19 =>
  ((r20 ≤ 0 →
  wp_X1_beginsChange  T19 fun T22 =>
  tlp (σ := Int32) (fun s24 T25 k24 =>
  (((8 * (T25.s 250)) ≤ s24 →
  wp_X1_movesBehind (p0 + r11) ((T25.s 251) - r11) T25 fun T27 =>
  tix 21 40 p0 ∧
  tlp (σ := Int32) (fun s29 T30 k29 =>
  (((T30.s 251) ≤ s29 →
  ∀ T32, T32 = T30.ss 250 ((T30.s 250) + ((T25.s 251) - r11)) →
  wp_X1_symbolOf p0 T32 fun r34 T33 =>
  tix 1 40 (4 + r34) ∧
  tlp (σ := Int32) (fun s35 T36 k35 =>
  wp_X1_symbolOf p0 T36 fun r38 T37 =>
  wp_X1_attributes r38 T37 fun r40 T39 =>
  ((r40 ≤ s35 →
  wp_X1_counts  T39 fun T42 =>
  wp_X1_gives (T42.s 250) T42 fun r45 T44 =>
  Q r45 T44) ∧ (¬ r40 ≤ s35 →
  tix 39 42 ((8 * p0) + s35) ∧
  ∀ T46, T46 = T39.sa 39 (ni ((8 * p0) + s35)) (vp_nar .boolean 1) →
  k35 (s35 + 1) T46))) (T33.a 1 (ni (4 + r34))) T33) ∧ (¬ (T30.s 251) ≤ s29 →
  tix 22 40 s29 ∧
  tix 19 40 (p0 + s29) ∧
  ∀ T47, T47 = T30.sa 19 (ni (p0 + s29)) (T30.a 22 (ni s29)) →
  tix 23 40 s29 ∧
  tix 20 40 (p0 + s29) ∧
  ∀ T48, T48 = T47.sa 20 (ni (p0 + s29)) (T47.a 23 (ni s29)) →
  tjn (α := Int32) (fun J50 =>
  ((s29 = 0 →
  J50 (T27.a 21 (ni p0)) T48) ∧ (¬ s29 = 0 →
  tix 24 40 s29 ∧
  J50 ((T48.a 24 (ni s29)) + p0) T48))) (fun x52 T53 =>
  tix 21 40 (p0 + s29) ∧
  ∀ T54, T54 = T53.sa 21 (ni (p0 + s29)) x52 →
  tlp (σ := Int32) (fun s55 T56 k55 =>
  ((((8 ≤ s55) ∨ (s29 ≤ 0)) →
  k29 (s29 + 1) T56) ∧ (¬ ((8 ≤ s55) ∨ (s29 ≤ 0)) →
  tix 40 42 ((8 * (p0 + s29)) + s55) ∧
  ∀ T59, T59 = T56.sa 40 (ni ((8 * (p0 + s29)) + s55)) (vp_nar .boolean 1) →
  tix 39 42 ((8 * (p0 + s29)) + s55) ∧
  ∀ T60, T60 = T59.sa 39 (ni ((8 * (p0 + s29)) + s55)) (vp_nar .boolean 1) →
  k55 (s55 + 1) T60))) 0 T54)))) 0 T27) ∧ (¬ (8 * (T25.s 250)) ≤ s24 →
  tix 36 42 s24 ∧
  (((T25.a 36 (ni s24)) = 0 →
  tix 39 42 s24 ∧
  ∀ T64, T64 = T25.sa 39 (ni s24) (vp_nar .boolean 0) →
  k24 (s24 + 1) T64) ∧ (¬ (T25.a 36 (ni s24)) = 0 →
  wp_X1_wasTied s24 p0 r11 T25 fun r66 T65 =>
  ∀ m67 : Int32, m67 = (if r66 = 0 then 0 else 1) →
  tix 39 42 s24 ∧
  ∀ T69, T69 = T65.sa 39 (ni s24) (vp_nar .boolean m67) →
  k24 (s24 + 1) T69))))) 0 T22) ∧ (¬ r20 ≤ 0 →
  wp_X1_refuse 9 T19 fun r72 T71 =>
  Q r72 T71))))))))
theorem hd_X1_graft : yX1_graft.cls = RX1 ∧ yX1_graft.cls ≠ "java/lang/invoke/MethodHandle" ∧ yX1_graft.cls ≠ "java/lang/invoke/VarHandle" ∧ (parseMethodDescriptor yX1_graft.desc).map (fun d => d.parameters.length) = some 2 := by decide +kernel
theorem ok_X1_graft {l : Launch} {D : va_G} {s0 : S0} (hG : G0 D s0) {o : Nat} {p0 : Int32} {p1 : Int32} {T : TS} {Q : Int32 → TS → Prop} (hw : wp_X1_graft p0 p1 T Q) : OKt l D s0 o yX1_graft cX1_graft 8 (some .int) 21 533 [vA (some o), vI p0, vI p1] T (TI Q) := by
  refine t_met hG rfl rfl (L0 := [(0, vA (some o)), (1, vI p0), (2, vI p1)]) rfl rfl ?_
  intro h K C
  unfold wp_X1_graft at hw
  refine t_b C (pc' := 3) (L' := [(0, vA (some o)), (1, vI p0), (2, vI p1)]) (st' := [vA (some o), vI 0, vI p1]) [(.iload_n 2, 1), (.iconst 0, 1), (.aload_n 0, 1)] ⟨dX1_graft_0, dX1_graft_1, dX1_graft_2, rfl⟩ rfl ?_
  refine t_gI C 205 6 dX1_graft_3 rfl rfl rfl q2193 (fun _ _ _ => rfl) ?_
  refine t_callSI C 9 [vI p1, vI 0, vI (T.s 205)] [] dX1_graft_6 rfl (ok_X1_isFrom hG hw) q2431 q2432 q159 q2433 hd_X1_isFrom ⟨rfl, rfl, rfl⟩ (fun r2 T1 hw => ?_)
  refine t_if_ne C 18 12 dX1_graft_9 rfl rfl (fun hc3 => ?_) (fun hc3 => ?_)
  · replace hw := hw.2 hc3
    refine t_b C (pc' := 19) (L' := [(0, vA (some o)), (1, vI p0), (2, vI p1)]) (st' := [vA (some o)]) [(.aload_n 0, 1)] ⟨dX1_graft_18, rfl⟩ rfl ?_
    refine t_callVI C 22 [] [] dX1_graft_19 rfl (ok_X1_hasTree hG hw) q2849 q2851 qs148 q159 q2852 hd_X1_hasTree ⟨rfl, rfl, rfl⟩ (fun r5 T4 hw => ?_)
    refine t_if_ne C 31 25 dX1_graft_22 rfl rfl (fun hc6 => ?_) (fun hc6 => ?_)
    · replace hw := hw.2 hc6
      refine t_b C (pc' := 33) (L' := [(0, vA (some o)), (1, vI p0), (2, vI p1)]) (st' := [vI p0, vA (some o)]) [(.aload_n 0, 1), (.iload_n 1, 1)] ⟨dX1_graft_31, dX1_graft_32, rfl⟩ rfl ?_
      refine t_callVI C 36 [vI p0] [] dX1_graft_33 rfl (ok_X1_isNode hG hw) q2778 q2780 qs134 q159 q2781 hd_X1_isNode ⟨rfl, rfl, rfl⟩ (fun r8 T7 hw => ?_)
      refine t_if_ne C 45 39 dX1_graft_36 rfl rfl (fun hc9 => ?_) (fun hc9 => ?_)
      · replace hw := hw.2 hc9
        refine t_b C (pc' := 47) (L' := [(0, vA (some o)), (1, vI p0), (2, vI p1)]) (st' := [vI p0, vA (some o)]) [(.aload_n 0, 1), (.iload_n 1, 1)] ⟨dX1_graft_45, dX1_graft_46, rfl⟩ rfl ?_
        refine t_callVI C 50 [vI p0] [] dX1_graft_47 rfl (ok_X1_sizeOf hG hw) q2837 q2839 qs146 q159 q2840 hd_X1_sizeOf ⟨rfl, rfl, rfl⟩ (fun r11 T10 hw => ?_)
        refine t_b C (pc' := 53) (L' := [(3, vI r11), (0, vA (some o)), (1, vI p0), (2, vI p1)]) (st' := [vA (some o), vA (some o)]) [(.istore_n 3, 1), (.aload_n 0, 1), (.aload_n 0, 1)] ⟨dX1_graft_50, dX1_graft_51, dX1_graft_52, rfl⟩ rfl ?_
        refine t_gI C 250 56 dX1_graft_53 rfl rfl rfl q2238 (fun _ _ _ => rfl) ?_
        refine t_b C (pc' := 58) (L' := [(3, vI r11), (0, vA (some o)), (1, vI p0), (2, vI p1)]) (st' := [vI ((T10.s 250) - r11), vA (some o)]) [(.iload_n 3, 1), (.isub, 1)] ⟨dX1_graft_56, dX1_graft_57, rfl⟩ rfl ?_
        refine t_pI C 252 61 dX1_graft_58 rfl rfl rfl rfl q2240 (fun _ _ _ => rfl) rfl rfl (fun T12 eT12 => ?_)
        replace hw := hw T12 eT12
        refine t_b C (pc' := 66) (L' := [(3, vI r11), (0, vA (some o)), (1, vI p0), (2, vI p1)]) (st' := [vI p0, vA (some o), vI p1, vA (some o), vA (some o)]) [(.aload_n 0, 1), (.aload_n 0, 1), (.iload_n 2, 1), (.aload_n 0, 1), (.iload_n 1, 1)] ⟨dX1_graft_61, dX1_graft_62, dX1_graft_63, dX1_graft_64, dX1_graft_65, rfl⟩ rfl ?_
        refine t_callVI C 69 [vI p0] [vI p1, vA (some o), vA (some o)] dX1_graft_66 rfl (ok_X1_symbolOf hG hw) q2782 q2784 qs135 q159 q2785 hd_X1_symbolOf ⟨rfl, rfl, rfl⟩ (fun r14 T13 hw => ?_)
        refine t_b C (pc' := 71) (L' := [(3, vI r11), (0, vA (some o)), (1, vI p0), (2, vI p1)]) (st' := [vI p0, vA (some o), vI r14, vI p1, vA (some o), vA (some o)]) [(.aload_n 0, 1), (.iload_n 1, 1)] ⟨dX1_graft_69, dX1_graft_70, rfl⟩ rfl ?_
        refine t_callVI C 74 [vI p0] [vI r14, vI p1, vA (some o), vA (some o)] dX1_graft_71 rfl (ok_X1_depthOf hG 16 hw) q2841 q2843 qs147 q159 q2844 hd_X1_depthOf ⟨rfl, rfl, rfl⟩ (fun r16 T15 hw => ?_)
        refine t_b C (pc' := 76) (L' := [(3, vI r11), (0, vA (some o)), (1, vI p0), (2, vI p1)]) (st' := [vI (r16 + 1), vI r14, vI p1, vA (some o), vA (some o)]) [(.iconst 1, 1), (.iadd, 1)] ⟨dX1_graft_74, dX1_graft_75, rfl⟩ rfl ?_
        refine t_callVI C 79 [vI p1, vI r14, vI (r16 + 1)] [vA (some o)] dX1_graft_76 rfl (ok_X1_readTree hG hw) q2758 q2760 qs129 q159 q2761 hd_X1_readTree ⟨rfl, rfl, rfl⟩ (fun r18 T17 hw => ?_)
        refine t_callVI C 82 [vI r18] [] dX1_graft_79 rfl (ok_X1_ends hG hw) q2554 q2556 qs92 q159 q2557 hd_X1_ends ⟨rfl, rfl, rfl⟩ (fun r20 T19 hw => ?_)
        refine t_if_le C 92 85 dX1_graft_82 rfl rfl (fun hc21 => ?_) (fun hc21 => ?_)
        · replace hw := hw.1 hc21
          refine t_b C (pc' := 93) (L' := [(3, vI r11), (0, vA (some o)), (1, vI p0), (2, vI p1)]) (st' := [vA (some o)]) [(.aload_n 0, 1)] ⟨dX1_graft_92, rfl⟩ rfl ?_
          refine t_callVV C 96 [] [] dX1_graft_93 rfl (ok_X1_beginsChange hG hw) q2873 q2875 qs149 q159 q2876 hd_X1_beginsChange ⟨rfl, rfl, rfl⟩ (fun T22 hw => ?_)
          refine t_b C (pc' := 99) (L' := [(4, vI 0), (3, vI r11), (0, vA (some o)), (1, vI p0), (2, vI p1)]) (st' := []) [(.iconst 0, 1), (.istore 4, 2)] ⟨dX1_graft_96, dX1_graft_97, rfl⟩ rfl ?_
          obtain ⟨I24, ⟨n24, hI24⟩, hB24⟩ := tlp.out hw
          refine t_sub C (L' := [(0, vA (some o)), (1, vI p0), (3, vI r11), (4, vI 0)]) [2, 3, 1, 0] rfl ?_
          have key24 : ∀ (n : Nat) (s24 : Int32) (T25 : TS), I24 n s24 T25 → K 99 [(0, vA (some o)), (1, vI p0), (3, vI r11), (4, vI s24)] [] T25 := by
            intro n
            induction n using Nat.strongRecOn with
            | ind n ih24 =>
              intro s24 T25 hI
              replace hw := hB24 n s24 T25 hI
              refine t_b C (pc' := 104) (L' := [(0, vA (some o)), (1, vI p0), (3, vI r11), (4, vI s24)]) (st' := [vA (some o), vI 8, vI s24]) [(.iload 4, 2), (.bipush 8, 2), (.aload_n 0, 1)] ⟨dX1_graft_99, dX1_graft_101, dX1_graft_103, rfl⟩ rfl ?_
              refine t_gI C 250 107 dX1_graft_104 rfl rfl rfl q2238 (fun _ _ _ => rfl) ?_
              refine t_b C (pc' := 108) (L' := [(0, vA (some o)), (1, vI p0), (3, vI r11), (4, vI s24)]) (st' := [vI (8 * (T25.s 250)), vI s24]) [(.imul, 1)] ⟨dX1_graft_107, rfl⟩ rfl ?_
              refine t_icmp_ge C 150 111 dX1_graft_108 rfl rfl (fun hc26 => ?_) (fun hc26 => ?_)
              · replace hw := hw.1 hc26
                refine t_b C (pc' := 151) (L' := [(0, vA (some o)), (1, vI p0), (3, vI r11), (4, vI s24)]) (st' := [vA (some o)]) [(.aload_n 0, 1)] ⟨dX1_graft_150, rfl⟩ rfl ?_
                refine t_gI C 251 154 dX1_graft_151 rfl rfl rfl q2239 (fun _ _ _ => rfl) ?_
                refine t_b C (pc' := 164) (L' := [(4, vI ((T25.s 251) - r11)), (0, vA (some o)), (1, vI p0), (3, vI r11)]) (st' := [vI ((T25.s 251) - r11), vI (p0 + r11), vA (some o)]) [(.iload_n 3, 1), (.isub, 1), (.istore 4, 2), (.aload_n 0, 1), (.iload_n 1, 1), (.iload_n 3, 1), (.iadd, 1), (.iload 4, 2)] ⟨dX1_graft_154, dX1_graft_155, dX1_graft_156, dX1_graft_158, dX1_graft_159, dX1_graft_160, dX1_graft_161, dX1_graft_162, rfl⟩ rfl ?_
                refine t_callVV C 167 [vI (p0 + r11), vI ((T25.s 251) - r11)] [] dX1_graft_164 rfl (ok_X1_movesBehind hG hw) q2909 q2911 qs156 q159 q2912 hd_X1_movesBehind ⟨rfl, rfl, rfl⟩ (fun T27 hw => ?_)
                refine t_b C (pc' := 168) (L' := [(4, vI ((T25.s 251) - r11)), (0, vA (some o)), (1, vI p0), (3, vI r11)]) (st' := [vA (some o)]) [(.aload_n 0, 1)] ⟨dX1_graft_167, rfl⟩ rfl ?_
                refine t_gA C 245 21 171 dX1_graft_168 rfl rfl rfl rfl rfl q2233 (fun _ _ _ => rfl) ?_
                refine t_b C (pc' := 172) (L' := [(4, vI ((T25.s 251) - r11)), (0, vA (some o)), (1, vI p0), (3, vI r11)]) (st' := [vI p0, vA (some (o + 1 + 21))]) [(.iload_n 1, 1)] ⟨dX1_graft_171, rfl⟩ rfl ?_
                refine t_iald C 173 dX1_graft_172 rfl hw.1 ?_
                replace hw := hw.2
                refine t_b C (pc' := 178) (L' := [(6, vI 0), (5, vI (T27.a 21 (ni p0))), (4, vI ((T25.s 251) - r11)), (0, vA (some o)), (1, vI p0), (3, vI r11)]) (st' := []) [(.istore 5, 2), (.iconst 0, 1), (.istore 6, 2)] ⟨dX1_graft_173, dX1_graft_175, dX1_graft_176, rfl⟩ rfl ?_
                obtain ⟨I29, ⟨n29, hI29⟩, hB29⟩ := tlp.out hw
                refine t_sub C (L' := [(0, vA (some o)), (1, vI p0), (4, vI ((T25.s 251) - r11)), (5, vI (T27.a 21 (ni p0))), (6, vI 0)]) [3, 4, 2, 1, 0] rfl ?_
                have key29 : ∀ (n : Nat) (s29 : Int32) (T30 : TS), I29 n s29 T30 → K 178 [(0, vA (some o)), (1, vI p0), (4, vI ((T25.s 251) - r11)), (5, vI (T27.a 21 (ni p0))), (6, vI s29)] [] T30 := by
                  intro n
                  induction n using Nat.strongRecOn with
                  | ind n ih29 =>
                    intro s29 T30 hI
                    replace hw := hB29 n s29 T30 hI
                    refine t_b C (pc' := 181) (L' := [(0, vA (some o)), (1, vI p0), (4, vI ((T25.s 251) - r11)), (5, vI (T27.a 21 (ni p0))), (6, vI s29)]) (st' := [vA (some o), vI s29]) [(.iload 6, 2), (.aload_n 0, 1)] ⟨dX1_graft_178, dX1_graft_180, rfl⟩ rfl ?_
                    refine t_gI C 251 184 dX1_graft_181 rfl rfl rfl q2239 (fun _ _ _ => rfl) ?_
                    refine t_icmp_ge C 306 187 dX1_graft_184 rfl rfl (fun hc31 => ?_) (fun hc31 => ?_)
                    · replace hw := hw.1 hc31
                      refine t_b C (pc' := 308) (L' := [(0, vA (some o)), (1, vI p0), (4, vI ((T25.s 251) - r11)), (5, vI (T27.a 21 (ni p0))), (6, vI s29)]) (st' := [vA (some o), vA (some o)]) [(.aload_n 0, 1), (.dup, 1)] ⟨dX1_graft_306, dX1_graft_307, rfl⟩ rfl ?_
                      refine t_gI C 250 311 dX1_graft_308 rfl rfl rfl q2238 (fun _ _ _ => rfl) ?_
                      refine t_b C (pc' := 314) (L' := [(0, vA (some o)), (1, vI p0), (4, vI ((T25.s 251) - r11)), (5, vI (T27.a 21 (ni p0))), (6, vI s29)]) (st' := [vI ((T30.s 250) + ((T25.s 251) - r11)), vA (some o)]) [(.iload 4, 2), (.iadd, 1)] ⟨dX1_graft_311, dX1_graft_313, rfl⟩ rfl ?_
                      refine t_pI C 250 317 dX1_graft_314 rfl rfl rfl rfl q2238 (fun _ _ _ => rfl) rfl rfl (fun T32 eT32 => ?_)
                      replace hw := hw T32 eT32
                      refine t_b C (pc' := 318) (L' := [(0, vA (some o)), (1, vI p0), (4, vI ((T25.s 251) - r11)), (5, vI (T27.a 21 (ni p0))), (6, vI s29)]) (st' := [vA (some o)]) [(.aload_n 0, 1)] ⟨dX1_graft_317, rfl⟩ rfl ?_
                      refine t_gA C 201 1 321 dX1_graft_318 rfl rfl rfl rfl rfl q2189 (fun _ _ _ => rfl) ?_
                      refine t_b C (pc' := 324) (L' := [(0, vA (some o)), (1, vI p0), (4, vI ((T25.s 251) - r11)), (5, vI (T27.a 21 (ni p0))), (6, vI s29)]) (st' := [vI p0, vA (some o), vI 4, vA (some (o + 1 + 1))]) [(.iconst 4, 1), (.aload_n 0, 1), (.iload_n 1, 1)] ⟨dX1_graft_321, dX1_graft_322, dX1_graft_323, rfl⟩ rfl ?_
                      refine t_callVI C 327 [vI p0] [vI 4, vA (some (o + 1 + 1))] dX1_graft_324 rfl (ok_X1_symbolOf hG hw) q2782 q2784 qs135 q159 q2785 hd_X1_symbolOf ⟨rfl, rfl, rfl⟩ (fun r34 T33 hw => ?_)
                      refine t_b C (pc' := 328) (L' := [(0, vA (some o)), (1, vI p0), (4, vI ((T25.s 251) - r11)), (5, vI (T27.a 21 (ni p0))), (6, vI s29)]) (st' := [vI (4 + r34), vA (some (o + 1 + 1))]) [(.iadd, 1)] ⟨dX1_graft_327, rfl⟩ rfl ?_
                      refine t_iald C 329 dX1_graft_328 rfl hw.1 ?_
                      replace hw := hw.2
                      refine t_b C (pc' := 331) (L' := [(6, vI (T33.a 1 (ni (4 + r34)))), (0, vA (some o)), (1, vI p0), (4, vI ((T25.s 251) - r11)), (5, vI (T27.a 21 (ni p0)))]) (st' := []) [(.istore 6, 2)] ⟨dX1_graft_329, rfl⟩ rfl ?_
                      obtain ⟨I35, ⟨n35, hI35⟩, hB35⟩ := tlp.out hw
                      refine t_sub C (L' := [(0, vA (some o)), (1, vI p0), (6, vI (T33.a 1 (ni (4 + r34))))]) [1, 2, 0] rfl ?_
                      have key35 : ∀ (n : Nat) (s35 : Int32) (T36 : TS), I35 n s35 T36 → K 331 [(0, vA (some o)), (1, vI p0), (6, vI s35)] [] T36 := by
                        intro n
                        induction n using Nat.strongRecOn with
                        | ind n ih35 =>
                          intro s35 T36 hI
                          replace hw := hB35 n s35 T36 hI
                          refine t_b C (pc' := 336) (L' := [(0, vA (some o)), (1, vI p0), (6, vI s35)]) (st' := [vI p0, vA (some o), vA (some o), vI s35]) [(.iload 6, 2), (.aload_n 0, 1), (.aload_n 0, 1), (.iload_n 1, 1)] ⟨dX1_graft_331, dX1_graft_333, dX1_graft_334, dX1_graft_335, rfl⟩ rfl ?_
                          refine t_callVI C 339 [vI p0] [vA (some o), vI s35] dX1_graft_336 rfl (ok_X1_symbolOf hG hw) q2782 q2784 qs135 q159 q2785 hd_X1_symbolOf ⟨rfl, rfl, rfl⟩ (fun r38 T37 hw => ?_)
                          refine t_callVI C 342 [vI r38] [vI s35] dX1_graft_339 rfl (ok_X1_attributes hG hw) q2578 q2580 qs98 q159 q2581 hd_X1_attributes ⟨rfl, rfl, rfl⟩ (fun r40 T39 hw => ?_)
                          refine t_icmp_ge C 364 345 dX1_graft_342 rfl rfl (fun hc41 => ?_) (fun hc41 => ?_)
                          · replace hw := hw.1 hc41
                            refine t_b C (pc' := 365) (L' := [(0, vA (some o)), (1, vI p0), (6, vI s35)]) (st' := [vA (some o)]) [(.aload_n 0, 1)] ⟨dX1_graft_364, rfl⟩ rfl ?_
                            refine t_callVV C 368 [] [] dX1_graft_365 rfl (ok_X1_counts hG hw) q2881 q2883 qs151 q159 q2884 hd_X1_counts ⟨rfl, rfl, rfl⟩ (fun T42 hw => ?_)
                            refine t_b C (pc' := 370) (L' := [(0, vA (some o)), (1, vI p0), (6, vI s35)]) (st' := [vA (some o), vA (some o)]) [(.aload_n 0, 1), (.aload_n 0, 1)] ⟨dX1_graft_368, dX1_graft_369, rfl⟩ rfl ?_
                            refine t_gI C 250 373 dX1_graft_370 rfl rfl rfl q2238 (fun _ _ _ => rfl) ?_
                            refine t_callVI C 376 [vI (T42.s 250)] [] dX1_graft_373 rfl (ok_X1_gives hG hw) q2589 q2591 qs100 q159 q2592 hd_X1_gives ⟨rfl, rfl, rfl⟩ (fun r45 T44 hw => ?_)
                            exact t_iret C dX1_graft_376 ⟨_, rfl, hw⟩
                          · replace hw := hw.2 hc41
                            refine t_b C (pc' := 346) (L' := [(0, vA (some o)), (1, vI p0), (6, vI s35)]) (st' := [vA (some o)]) [(.aload_n 0, 1)] ⟨dX1_graft_345, rfl⟩ rfl ?_
                            refine t_gA C 269 39 349 dX1_graft_346 rfl rfl rfl rfl rfl q2257 (fun _ _ _ => rfl) ?_
                            refine t_b C (pc' := 357) (L' := [(0, vA (some o)), (1, vI p0), (6, vI s35)]) (st' := [vI 1, vI ((8 * p0) + s35), vA (some (o + 1 + 39))]) [(.bipush 8, 2), (.iload_n 1, 1), (.imul, 1), (.iload 6, 2), (.iadd, 1), (.iconst 1, 1)] ⟨dX1_graft_349, dX1_graft_351, dX1_graft_352, dX1_graft_353, dX1_graft_355, dX1_graft_356, rfl⟩ rfl ?_
                            refine t_zast C 358 dX1_graft_357 rfl hw.1 (fun T46 eT46 => ?_)
                            replace hw := hw.2 T46 eT46
                            refine t_b C (pc' := 361) (L' := [(6, vI (s35 + 1)), (0, vA (some o)), (1, vI p0)]) (st' := []) [(.iinc 6 1, 3)] ⟨dX1_graft_358, rfl⟩ rfl ?_
                            refine t_goto C 331 dX1_graft_361 rfl ?_
                            refine t_sub C (L' := [(0, vA (some o)), (1, vI p0), (6, vI (s35 + 1))]) [1, 2, 0] rfl ?_
                            obtain ⟨m9, hm9, hw⟩ := hw
                            exact ih35 m9 hm9 (s35 + 1) T46 hw
                      exact key35 n35 (T33.a 1 (ni (4 + r34))) T33 hI35
                    · replace hw := hw.2 hc31
                      refine t_b C (pc' := 188) (L' := [(0, vA (some o)), (1, vI p0), (4, vI ((T25.s 251) - r11)), (5, vI (T27.a 21 (ni p0))), (6, vI s29)]) (st' := [vA (some o)]) [(.aload_n 0, 1)] ⟨dX1_graft_187, rfl⟩ rfl ?_
                      refine t_gA C 243 19 191 dX1_graft_188 rfl rfl rfl rfl rfl q2231 (fun _ _ _ => rfl) ?_
                      refine t_b C (pc' := 196) (L' := [(0, vA (some o)), (1, vI p0), (4, vI ((T25.s 251) - r11)), (5, vI (T27.a 21 (ni p0))), (6, vI s29)]) (st' := [vA (some o), vI (p0 + s29), vA (some (o + 1 + 19))]) [(.iload_n 1, 1), (.iload 6, 2), (.iadd, 1), (.aload_n 0, 1)] ⟨dX1_graft_191, dX1_graft_192, dX1_graft_194, dX1_graft_195, rfl⟩ rfl ?_
                      refine t_gA C 246 22 199 dX1_graft_196 rfl rfl rfl rfl rfl q2234 (fun _ _ _ => rfl) ?_
                      refine t_b C (pc' := 201) (L' := [(0, vA (some o)), (1, vI p0), (4, vI ((T25.s 251) - r11)), (5, vI (T27.a 21 (ni p0))), (6, vI s29)]) (st' := [vI s29, vA (some (o + 1 + 22)), vI (p0 + s29), vA (some (o + 1 + 19))]) [(.iload 6, 2)] ⟨dX1_graft_199, rfl⟩ rfl ?_
                      refine t_iald C 202 dX1_graft_201 rfl hw.1 ?_
                      replace hw := hw.2
                      refine t_iast C 203 dX1_graft_202 rfl hw.1 (fun T47 eT47 => ?_)
                      replace hw := hw.2 T47 eT47
                      refine t_b C (pc' := 204) (L' := [(0, vA (some o)), (1, vI p0), (4, vI ((T25.s 251) - r11)), (5, vI (T27.a 21 (ni p0))), (6, vI s29)]) (st' := [vA (some o)]) [(.aload_n 0, 1)] ⟨dX1_graft_203, rfl⟩ rfl ?_
                      refine t_gA C 244 20 207 dX1_graft_204 rfl rfl rfl rfl rfl q2232 (fun _ _ _ => rfl) ?_
                      refine t_b C (pc' := 212) (L' := [(0, vA (some o)), (1, vI p0), (4, vI ((T25.s 251) - r11)), (5, vI (T27.a 21 (ni p0))), (6, vI s29)]) (st' := [vA (some o), vI (p0 + s29), vA (some (o + 1 + 20))]) [(.iload_n 1, 1), (.iload 6, 2), (.iadd, 1), (.aload_n 0, 1)] ⟨dX1_graft_207, dX1_graft_208, dX1_graft_210, dX1_graft_211, rfl⟩ rfl ?_
                      refine t_gA C 247 23 215 dX1_graft_212 rfl rfl rfl rfl rfl q2235 (fun _ _ _ => rfl) ?_
                      refine t_b C (pc' := 217) (L' := [(0, vA (some o)), (1, vI p0), (4, vI ((T25.s 251) - r11)), (5, vI (T27.a 21 (ni p0))), (6, vI s29)]) (st' := [vI s29, vA (some (o + 1 + 23)), vI (p0 + s29), vA (some (o + 1 + 20))]) [(.iload 6, 2)] ⟨dX1_graft_215, rfl⟩ rfl ?_
                      refine t_iald C 218 dX1_graft_217 rfl hw.1 ?_
                      replace hw := hw.2
                      refine t_iast C 219 dX1_graft_218 rfl hw.1 (fun T48 eT48 => ?_)
                      replace hw := hw.2 T48 eT48
                      refine t_b C (pc' := 220) (L' := [(0, vA (some o)), (1, vI p0), (4, vI ((T25.s 251) - r11)), (5, vI (T27.a 21 (ni p0))), (6, vI s29)]) (st' := [vA (some o)]) [(.aload_n 0, 1)] ⟨dX1_graft_219, rfl⟩ rfl ?_
                      refine t_gA C 245 21 223 dX1_graft_220 rfl rfl rfl rfl rfl q2233 (fun _ _ _ => rfl) ?_
                      refine t_b C (pc' := 229) (L' := [(0, vA (some o)), (1, vI p0), (4, vI ((T25.s 251) - r11)), (5, vI (T27.a 21 (ni p0))), (6, vI s29)]) (st' := [vI s29, vI (p0 + s29), vA (some (o + 1 + 21))]) [(.iload_n 1, 1), (.iload 6, 2), (.iadd, 1), (.iload 6, 2)] ⟨dX1_graft_223, dX1_graft_224, dX1_graft_226, dX1_graft_227, rfl⟩ rfl ?_
                      obtain ⟨J50, hw, hJ50⟩ := tjn.out hw
                      have kj49 : ∀ (x52 : Int32) (T53 : TS), J50 x52 T53 → K 246 [(0, vA (some o)), (1, vI p0), (4, vI ((T25.s 251) - r11)), (5, vI (T27.a 21 (ni p0))), (6, vI s29)] [vI x52, vI (p0 + s29), vA (some (o + 1 + 21))] T53 := by
                        intro x52 T53 hj
                        replace hw := hJ50 x52 T53 hj
                        refine t_iast C 247 dX1_graft_246 rfl hw.1 (fun T54 eT54 => ?_)
                        replace hw := hw.2 T54 eT54
                        refine t_b C (pc' := 250) (L' := [(7, vI 0), (0, vA (some o)), (1, vI p0), (4, vI ((T25.s 251) - r11)), (5, vI (T27.a 21 (ni p0))), (6, vI s29)]) (st' := []) [(.iconst 0, 1), (.istore 7, 2)] ⟨dX1_graft_247, dX1_graft_248, rfl⟩ rfl ?_
                        obtain ⟨I55, ⟨n55, hI55⟩, hB55⟩ := tlp.out hw
                        refine t_sub C (L' := [(0, vA (some o)), (1, vI p0), (4, vI ((T25.s 251) - r11)), (5, vI (T27.a 21 (ni p0))), (6, vI s29), (7, vI 0)]) [1, 2, 3, 4, 5, 0] rfl ?_
                        have key55 : ∀ (n : Nat) (s55 : Int32) (T56 : TS), I55 n s55 T56 → K 250 [(0, vA (some o)), (1, vI p0), (4, vI ((T25.s 251) - r11)), (5, vI (T27.a 21 (ni p0))), (6, vI s29), (7, vI s55)] [] T56 := by
                          intro n
                          induction n using Nat.strongRecOn with
                          | ind n ih55 =>
                            intro s55 T56 hI
                            replace hw := hB55 n s55 T56 hI
                            refine t_b C (pc' := 254) (L' := [(0, vA (some o)), (1, vI p0), (4, vI ((T25.s 251) - r11)), (5, vI (T27.a 21 (ni p0))), (6, vI s29), (7, vI s55)]) (st' := [vI 8, vI s55]) [(.iload 7, 2), (.bipush 8, 2)] ⟨dX1_graft_250, dX1_graft_252, rfl⟩ rfl ?_
                            have kx57 : ((8 ≤ s55) ∨ (s29 ≤ 0)) → K 300 [(0, vA (some o)), (1, vI p0), (4, vI ((T25.s 251) - r11)), (5, vI (T27.a 21 (ni p0))), (6, vI s29), (7, vI s55)] [] T56 := by
                              intro hcc
                              replace hw := hw.1 hcc
                              refine t_b C (pc' := 303) (L' := [(6, vI (s29 + 1)), (0, vA (some o)), (1, vI p0), (4, vI ((T25.s 251) - r11)), (5, vI (T27.a 21 (ni p0))), (7, vI s55)]) (st' := []) [(.iinc 6 1, 3)] ⟨dX1_graft_300, rfl⟩ rfl ?_
                              refine t_goto C 178 dX1_graft_303 rfl ?_
                              refine t_sub C (L' := [(0, vA (some o)), (1, vI p0), (4, vI ((T25.s 251) - r11)), (5, vI (T27.a 21 (ni p0))), (6, vI (s29 + 1))]) [1, 2, 3, 4, 0] rfl ?_
                              obtain ⟨m9, hm9, hw⟩ := hw
                              exact ih29 m9 hm9 (s29 + 1) T56 hw
                            have ky58 : ¬ ((8 ≤ s55) ∨ (s29 ≤ 0)) → K 277 [(0, vA (some o)), (1, vI p0), (4, vI ((T25.s 251) - r11)), (5, vI (T27.a 21 (ni p0))), (6, vI s29), (7, vI s55)] [vI 1, vI ((8 * (p0 + s29)) + s55), vA (some (o + 1 + 40))] T56 := by
                              intro hcc
                              replace hw := hw.2 hcc
                              refine t_zast C 278 dX1_graft_277 rfl hw.1 (fun T59 eT59 => ?_)
                              replace hw := hw.2 T59 eT59
                              refine t_b C (pc' := 279) (L' := [(0, vA (some o)), (1, vI p0), (4, vI ((T25.s 251) - r11)), (5, vI (T27.a 21 (ni p0))), (6, vI s29), (7, vI s55)]) (st' := [vA (some o)]) [(.aload_n 0, 1)] ⟨dX1_graft_278, rfl⟩ rfl ?_
                              refine t_gA C 269 39 282 dX1_graft_279 rfl rfl rfl rfl rfl q2257 (fun _ _ _ => rfl) ?_
                              refine t_b C (pc' := 293) (L' := [(0, vA (some o)), (1, vI p0), (4, vI ((T25.s 251) - r11)), (5, vI (T27.a 21 (ni p0))), (6, vI s29), (7, vI s55)]) (st' := [vI 1, vI ((8 * (p0 + s29)) + s55), vA (some (o + 1 + 39))]) [(.bipush 8, 2), (.iload_n 1, 1), (.iload 6, 2), (.iadd, 1), (.imul, 1), (.iload 7, 2), (.iadd, 1), (.iconst 1, 1)] ⟨dX1_graft_282, dX1_graft_284, dX1_graft_285, dX1_graft_287, dX1_graft_288, dX1_graft_289, dX1_graft_291, dX1_graft_292, rfl⟩ rfl ?_
                              refine t_zast C 294 dX1_graft_293 rfl hw.1 (fun T60 eT60 => ?_)
                              replace hw := hw.2 T60 eT60
                              refine t_b C (pc' := 297) (L' := [(7, vI (s55 + 1)), (0, vA (some o)), (1, vI p0), (4, vI ((T25.s 251) - r11)), (5, vI (T27.a 21 (ni p0))), (6, vI s29)]) (st' := []) [(.iinc 7 1, 3)] ⟨dX1_graft_294, rfl⟩ rfl ?_
                              refine t_goto C 250 dX1_graft_297 rfl ?_
                              refine t_sub C (L' := [(0, vA (some o)), (1, vI p0), (4, vI ((T25.s 251) - r11)), (5, vI (T27.a 21 (ni p0))), (6, vI s29), (7, vI (s55 + 1))]) [1, 2, 3, 4, 5, 0] rfl ?_
                              obtain ⟨m9, hm9, hw⟩ := hw
                              exact ih55 m9 hm9 (s55 + 1) T60 hw
                            refine t_icmp_ge C 300 257 dX1_graft_254 rfl rfl (fun hc61 => ?_) (fun hc61 => ?_)
                            · exact kx57 (Or.inl hc61)
                            · refine t_b C (pc' := 259) (L' := [(0, vA (some o)), (1, vI p0), (4, vI ((T25.s 251) - r11)), (5, vI (T27.a 21 (ni p0))), (6, vI s29), (7, vI s55)]) (st' := [vI s29]) [(.iload 6, 2)] ⟨dX1_graft_257, rfl⟩ rfl ?_
                              refine t_if_le C 300 262 dX1_graft_259 rfl rfl (fun hc62 => ?_) (fun hc62 => ?_)
                              · exact kx57 (Or.inr hc62)
                              · refine t_b C (pc' := 263) (L' := [(0, vA (some o)), (1, vI p0), (4, vI ((T25.s 251) - r11)), (5, vI (T27.a 21 (ni p0))), (6, vI s29), (7, vI s55)]) (st' := [vA (some o)]) [(.aload_n 0, 1)] ⟨dX1_graft_262, rfl⟩ rfl ?_
                                refine t_gA C 270 40 266 dX1_graft_263 rfl rfl rfl rfl rfl q2258 (fun _ _ _ => rfl) ?_
                                refine t_b C (pc' := 277) (L' := [(0, vA (some o)), (1, vI p0), (4, vI ((T25.s 251) - r11)), (5, vI (T27.a 21 (ni p0))), (6, vI s29), (7, vI s55)]) (st' := [vI 1, vI ((8 * (p0 + s29)) + s55), vA (some (o + 1 + 40))]) [(.bipush 8, 2), (.iload_n 1, 1), (.iload 6, 2), (.iadd, 1), (.imul, 1), (.iload 7, 2), (.iadd, 1), (.iconst 1, 1)] ⟨dX1_graft_266, dX1_graft_268, dX1_graft_269, dX1_graft_271, dX1_graft_272, dX1_graft_273, dX1_graft_275, dX1_graft_276, rfl⟩ rfl ?_
                                exact ky58 (fun h0 => h0.elim hc61 hc62)
                        exact key55 n55 0 T54 hI55
                      refine t_if_ne C 237 232 dX1_graft_229 rfl rfl (fun hc51 => ?_) (fun hc51 => ?_)
                      · replace hw := hw.2 hc51
                        refine t_b C (pc' := 238) (L' := [(0, vA (some o)), (1, vI p0), (4, vI ((T25.s 251) - r11)), (5, vI (T27.a 21 (ni p0))), (6, vI s29)]) (st' := [vA (some o), vI (p0 + s29), vA (some (o + 1 + 21))]) [(.aload_n 0, 1)] ⟨dX1_graft_237, rfl⟩ rfl ?_
                        refine t_gA C 248 24 241 dX1_graft_238 rfl rfl rfl rfl rfl q2236 (fun _ _ _ => rfl) ?_
                        refine t_b C (pc' := 243) (L' := [(0, vA (some o)), (1, vI p0), (4, vI ((T25.s 251) - r11)), (5, vI (T27.a 21 (ni p0))), (6, vI s29)]) (st' := [vI s29, vA (some (o + 1 + 24)), vI (p0 + s29), vA (some (o + 1 + 21))]) [(.iload 6, 2)] ⟨dX1_graft_241, rfl⟩ rfl ?_
                        refine t_iald C 244 dX1_graft_243 rfl hw.1 ?_
                        replace hw := hw.2
                        refine t_b C (pc' := 246) (L' := [(0, vA (some o)), (1, vI p0), (4, vI ((T25.s 251) - r11)), (5, vI (T27.a 21 (ni p0))), (6, vI s29)]) (st' := [vI ((T48.a 24 (ni s29)) + p0), vI (p0 + s29), vA (some (o + 1 + 21))]) [(.iload_n 1, 1), (.iadd, 1)] ⟨dX1_graft_244, dX1_graft_245, rfl⟩ rfl ?_
                        refine t_sub C (L' := [(0, vA (some o)), (1, vI p0), (4, vI ((T25.s 251) - r11)), (5, vI (T27.a 21 (ni p0))), (6, vI s29)]) [0, 1, 2, 3, 4] rfl ?_
                        exact kj49 ((T48.a 24 (ni s29)) + p0) T48 hw
                      · replace hw := hw.1 hc51
                        refine t_b C (pc' := 234) (L' := [(0, vA (some o)), (1, vI p0), (4, vI ((T25.s 251) - r11)), (5, vI (T27.a 21 (ni p0))), (6, vI s29)]) (st' := [vI (T27.a 21 (ni p0)), vI (p0 + s29), vA (some (o + 1 + 21))]) [(.iload 5, 2)] ⟨dX1_graft_232, rfl⟩ rfl ?_
                        refine t_goto C 246 dX1_graft_234 rfl ?_
                        refine t_sub C (L' := [(0, vA (some o)), (1, vI p0), (4, vI ((T25.s 251) - r11)), (5, vI (T27.a 21 (ni p0))), (6, vI s29)]) [0, 1, 2, 3, 4] rfl ?_
                        exact kj49 (T27.a 21 (ni p0)) T48 hw
                exact key29 n29 0 T27 hI29
              · replace hw := hw.2 hc26
                refine t_b C (pc' := 112) (L' := [(0, vA (some o)), (1, vI p0), (3, vI r11), (4, vI s24)]) (st' := [vA (some o)]) [(.aload_n 0, 1)] ⟨dX1_graft_111, rfl⟩ rfl ?_
                refine t_gA C 269 39 115 dX1_graft_112 rfl rfl rfl rfl rfl q2257 (fun _ _ _ => rfl) ?_
                refine t_b C (pc' := 118) (L' := [(0, vA (some o)), (1, vI p0), (3, vI r11), (4, vI s24)]) (st' := [vA (some o), vI s24, vA (some (o + 1 + 39))]) [(.iload 4, 2), (.aload_n 0, 1)] ⟨dX1_graft_115, dX1_graft_117, rfl⟩ rfl ?_
                refine t_gA C 266 36 121 dX1_graft_118 rfl rfl rfl rfl rfl q2254 (fun _ _ _ => rfl) ?_
                refine t_b C (pc' := 123) (L' := [(0, vA (some o)), (1, vI p0), (3, vI r11), (4, vI s24)]) (st' := [vI s24, vA (some (o + 1 + 36)), vI s24, vA (some (o + 1 + 39))]) [(.iload 4, 2)] ⟨dX1_graft_121, rfl⟩ rfl ?_
                refine t_zald C 124 dX1_graft_123 rfl hw.1 ?_
                replace hw := hw.2
                refine t_if_eq C 142 127 dX1_graft_124 rfl rfl (fun hc63 => ?_) (fun hc63 => ?_)
                · replace hw := hw.1 hc63
                  refine t_b C (pc' := 143) (L' := [(0, vA (some o)), (1, vI p0), (3, vI r11), (4, vI s24)]) (st' := [vI 0, vI s24, vA (some (o + 1 + 39))]) [(.iconst 0, 1)] ⟨dX1_graft_142, rfl⟩ rfl ?_
                  refine t_zast C 144 dX1_graft_143 rfl hw.1 (fun T64 eT64 => ?_)
                  replace hw := hw.2 T64 eT64
                  refine t_b C (pc' := 147) (L' := [(4, vI (s24 + 1)), (0, vA (some o)), (1, vI p0), (3, vI r11)]) (st' := []) [(.iinc 4 1, 3)] ⟨dX1_graft_144, rfl⟩ rfl ?_
                  refine t_goto C 99 dX1_graft_147 rfl ?_
                  refine t_sub C (L' := [(0, vA (some o)), (1, vI p0), (3, vI r11), (4, vI (s24 + 1))]) [1, 2, 3, 0] rfl ?_
                  obtain ⟨m9, hm9, hw⟩ := hw
                  exact ih24 m9 hm9 (s24 + 1) T64 hw
                · replace hw := hw.2 hc63
                  refine t_b C (pc' := 132) (L' := [(0, vA (some o)), (1, vI p0), (3, vI r11), (4, vI s24)]) (st' := [vI r11, vI p0, vI s24, vA (some o), vI s24, vA (some (o + 1 + 39))]) [(.aload_n 0, 1), (.iload 4, 2), (.iload_n 1, 1), (.iload_n 3, 1)] ⟨dX1_graft_127, dX1_graft_128, dX1_graft_130, dX1_graft_131, rfl⟩ rfl ?_
                  refine t_callVI C 135 [vI s24, vI p0, vI r11] [vI s24, vA (some (o + 1 + 39))] dX1_graft_132 rfl (ok_X1_wasTied hG hw) q2905 q2907 qs155 q159 q2908 hd_X1_wasTied ⟨rfl, rfl, rfl⟩ (fun r66 T65 hw => ?_)
                  have kj68 : ∀ (m67 : Int32), m67 = (if r66 = 0 then 0 else 1) → K 143 [(0, vA (some o)), (1, vI p0), (3, vI r11), (4, vI s24)] [vI m67, vI s24, vA (some (o + 1 + 39))] T65 := by
                    intro m67 em67
                    replace hw := hw m67 em67
                    refine t_zast C 144 dX1_graft_143 rfl hw.1 (fun T69 eT69 => ?_)
                    replace hw := hw.2 T69 eT69
                    refine t_b C (pc' := 147) (L' := [(4, vI (s24 + 1)), (0, vA (some o)), (1, vI p0), (3, vI r11)]) (st' := []) [(.iinc 4 1, 3)] ⟨dX1_graft_144, rfl⟩ rfl ?_
                    refine t_goto C 99 dX1_graft_147 rfl ?_
                    refine t_sub C (L' := [(0, vA (some o)), (1, vI p0), (3, vI r11), (4, vI (s24 + 1))]) [1, 2, 3, 0] rfl ?_
                    obtain ⟨m9, hm9, hw⟩ := hw
                    exact ih24 m9 hm9 (s24 + 1) T69 hw
                  refine t_if_eq C 142 138 dX1_graft_135 rfl rfl (fun hc70 => ?_) (fun hc70 => ?_)
                  · refine t_b C (pc' := 143) (L' := [(0, vA (some o)), (1, vI p0), (3, vI r11), (4, vI s24)]) (st' := [vI 0, vI s24, vA (some (o + 1 + 39))]) [(.iconst 0, 1)] ⟨dX1_graft_142, rfl⟩ rfl ?_
                    refine t_sub C (L' := [(0, vA (some o)), (1, vI p0), (3, vI r11), (4, vI s24)]) [0, 1, 2, 3] rfl ?_
                    exact kj68 _ ((if_pos hc70).symm)
                  · refine t_b C (pc' := 139) (L' := [(0, vA (some o)), (1, vI p0), (3, vI r11), (4, vI s24)]) (st' := [vI 1, vI s24, vA (some (o + 1 + 39))]) [(.iconst 1, 1)] ⟨dX1_graft_138, rfl⟩ rfl ?_
                    refine t_goto C 143 dX1_graft_139 rfl ?_
                    refine t_sub C (L' := [(0, vA (some o)), (1, vI p0), (3, vI r11), (4, vI s24)]) [0, 1, 2, 3] rfl ?_
                    exact kj68 _ ((if_neg hc70).symm)
          exact key24 n24 0 T22 hI24
        · replace hw := hw.2 hc21
          refine t_b C (pc' := 88) (L' := [(3, vI r11), (0, vA (some o)), (1, vI p0), (2, vI p1)]) (st' := [vI 9, vA (some o)]) [(.aload_n 0, 1), (.bipush 9, 2)] ⟨dX1_graft_85, dX1_graft_86, rfl⟩ rfl ?_
          refine t_callVI C 91 [vI 9] [] dX1_graft_88 rfl (ok_X1_refuse hG hw) q2434 q2436 qs70 q159 q2437 hd_X1_refuse ⟨rfl, rfl, rfl⟩ (fun r72 T71 hw => ?_)
          exact t_iret C dX1_graft_91 ⟨_, rfl, hw⟩
      · replace hw := hw.1 hc9
        refine t_b C (pc' := 41) (L' := [(0, vA (some o)), (1, vI p0), (2, vI p1)]) (st' := [vI 4, vA (some o)]) [(.aload_n 0, 1), (.iconst 4, 1)] ⟨dX1_graft_39, dX1_graft_40, rfl⟩ rfl ?_
        refine t_callVI C 44 [vI 4] [] dX1_graft_41 rfl (ok_X1_refuse hG hw) q2434 q2436 qs70 q159 q2437 hd_X1_refuse ⟨rfl, rfl, rfl⟩ (fun r74 T73 hw => ?_)
        exact t_iret C dX1_graft_44 ⟨_, rfl, hw⟩
    · replace hw := hw.1 hc6
      refine t_b C (pc' := 27) (L' := [(0, vA (some o)), (1, vI p0), (2, vI p1)]) (st' := [vI 3, vA (some o)]) [(.aload_n 0, 1), (.iconst 3, 1)] ⟨dX1_graft_25, dX1_graft_26, rfl⟩ rfl ?_
      refine t_callVI C 30 [vI 3] [] dX1_graft_27 rfl (ok_X1_refuse hG hw) q2434 q2436 qs70 q159 q2437 hd_X1_refuse ⟨rfl, rfl, rfl⟩ (fun r76 T75 hw => ?_)
      exact t_iret C dX1_graft_30 ⟨_, rfl, hw⟩
  · replace hw := hw.1 hc3
    refine t_b C (pc' := 14) (L' := [(0, vA (some o)), (1, vI p0), (2, vI p1)]) (st' := [vI 1, vA (some o)]) [(.aload_n 0, 1), (.iconst 1, 1)] ⟨dX1_graft_12, dX1_graft_13, rfl⟩ rfl ?_
    refine t_callVI C 17 [vI 1] [] dX1_graft_14 rfl (ok_X1_refuse hG hw) q2434 q2436 qs70 q159 q2437 hd_X1_refuse ⟨rfl, rfl, rfl⟩ (fun r78 T77 hw => ?_)
    exact t_iret C dX1_graft_17 ⟨_, rfl, hw⟩
def wp_X1_induces  (T : TS) (Q : TS → Prop) : Prop :=
  tlp (σ := Int32) (fun s1 T2 k1 =>
  ((64 ≤ s1 →
  tlp (σ := Int32) (fun s4 T5 k4 =>
  ((s4 = 0 →
  Q T5) ∧ (¬ s4 = 0 →
  tlp (σ := Int32 × Int32) (fun s7 T8 k7 =>
  tix 1 40 1 ∧
  (((T8.a 1 (ni 1)) ≤ s7.2 →
  k4 s7.1 T8) ∧ (¬ (T8.a 1 (ni 1)) ≤ s7.2 →
  wp_X1_laysClosed (s7.2) T8 fun T10 =>
  tlp (σ := Int32 × Int32) (fun s12 T13 k12 =>
  tix 1 40 (32 + s7.2) ∧
  (((T13.a 1 (ni (32 + s7.2))) < s12.2 →
  k7 (s12.1, (s7.2 + 1)) T13) ∧ (¬ (T13.a 1 (ni (32 + s7.2))) < s12.2 →
  wp_X1_symbolAt 1 (s7.2) (s12.2) T13 fun r16 T15 =>
  tlp (σ := Int32 × Int32) (fun s17 T18 k17 =>
  wp_X1_attributes r16 T18 fun r20 T19 =>
  ((r20 ≤ s17.2 →
  k12 (s17.1, (s12.2 + 1)) T19) ∧ (¬ r20 ≤ s17.2 →
  tix 5 40 ((8 * r16) + s17.2) ∧
  tix 6 40 ((8 * s12.2) + s17.2) ∧
  ((s17.1 = 0 →
  tix 5 40 ((8 * r16) + s17.2) ∧
  ∀ m24 : Int32, m24 = (if ((T19.a 5 (ni ((8 * r16) + s17.2))) ||| ((jushr (T19.a 6 (ni ((8 * s12.2) + s17.2))) (8 * s12.2)) &&& 255)) = (T19.a 5 (ni ((8 * r16) + s17.2))) then 0 else 1) →
  tix 5 40 ((8 * r16) + s17.2) ∧
  ∀ T26, T26 = T19.sa 5 (ni ((8 * r16) + s17.2)) ((T19.a 5 (ni ((8 * r16) + s17.2))) ||| ((jushr (T19.a 6 (ni ((8 * s12.2) + s17.2))) (8 * s12.2)) &&& 255)) →
  k17 (m24, (s17.2 + 1)) T26) ∧ (¬ s17.1 = 0 →
  tix 5 40 ((8 * r16) + s17.2) ∧
  ∀ T23, T23 = T19.sa 5 (ni ((8 * r16) + s17.2)) ((T19.a 5 (ni ((8 * r16) + s17.2))) ||| ((jushr (T19.a 6 (ni ((8 * s12.2) + s17.2))) (8 * s12.2)) &&& 255)) →
  k17 (1, (s17.2 + 1)) T23))))) (s12.1, 0) T15))) (s7.1, 0) T10))) (0, 0) T5))) 1 T2) ∧ (¬ 64 ≤ s1 →
  tix 5 40 s1 ∧
  ∀ T28, T28 = T2.sa 5 (ni s1) 0 →
  k1 (s1 + 1) T28))) 0 T
theorem hd_X1_induces : yX1_induces.cls = RX1 ∧ yX1_induces.cls ≠ "java/lang/invoke/MethodHandle" ∧ yX1_induces.cls ≠ "java/lang/invoke/VarHandle" ∧ (parseMethodDescriptor yX1_induces.desc).map (fun d => d.parameters.length) = some 0 := by decide +kernel
theorem ok_X1_induces {l : Launch} {D : va_G} {s0 : S0} (hG : G0 D s0) {o : Nat}  {T : TS} {Q : TS → Prop} (hw : wp_X1_induces  T Q) : OKt l D s0 o yX1_induces cX1_induces 7 none 4 87 [vA (some o)] T (TV Q) := by
  refine t_met hG rfl rfl (L0 := [(0, vA (some o))]) rfl rfl ?_
  intro h K C
  unfold wp_X1_induces at hw
  refine t_b C (pc' := 2) (L' := [(1, vI 0), (0, vA (some o))]) (st' := []) [(.iconst 0, 1), (.istore_n 1, 1)] ⟨dX1_induces_0, dX1_induces_1, rfl⟩ rfl ?_
  obtain ⟨I1, ⟨n1, hI1⟩, hB1⟩ := tlp.out hw
  refine t_sub C (L' := [(0, vA (some o)), (1, vI 0)]) [1, 0] rfl ?_
  have key1 : ∀ (n : Nat) (s1 : Int32) (T2 : TS), I1 n s1 T2 → K 2 [(0, vA (some o)), (1, vI s1)] [] T2 := by
    intro n
    induction n using Nat.strongRecOn with
    | ind n ih1 =>
      intro s1 T2 hI
      replace hw := hB1 n s1 T2 hI
      refine t_b C (pc' := 5) (L' := [(0, vA (some o)), (1, vI s1)]) (st' := [vI 64, vI s1]) [(.iload_n 1, 1), (.bipush 64, 2)] ⟨dX1_induces_2, dX1_induces_3, rfl⟩ rfl ?_
      refine t_icmp_ge C 21 8 dX1_induces_5 rfl rfl (fun hc3 => ?_) (fun hc3 => ?_)
      · replace hw := hw.1 hc3
        refine t_b C (pc' := 23) (L' := [(1, vI 1), (0, vA (some o))]) (st' := []) [(.iconst 1, 1), (.istore_n 1, 1)] ⟨dX1_induces_21, dX1_induces_22, rfl⟩ rfl ?_
        obtain ⟨I4, ⟨n4, hI4⟩, hB4⟩ := tlp.out hw
        refine t_sub C (L' := [(0, vA (some o)), (1, vI 1)]) [1, 0] rfl ?_
        have key4 : ∀ (n : Nat) (s4 : Int32) (T5 : TS), I4 n s4 T5 → K 23 [(0, vA (some o)), (1, vI s4)] [] T5 := by
          intro n
          induction n using Nat.strongRecOn with
          | ind n ih4 =>
            intro s4 T5 hI
            replace hw := hB4 n s4 T5 hI
            refine t_b C (pc' := 24) (L' := [(0, vA (some o)), (1, vI s4)]) (st' := [vI s4]) [(.iload_n 1, 1)] ⟨dX1_induces_23, rfl⟩ rfl ?_
            refine t_if_eq C 187 27 dX1_induces_24 rfl rfl (fun hc6 => ?_) (fun hc6 => ?_)
            · replace hw := hw.1 hc6
              exact t_vret C dX1_induces_187 ⟨rfl, hw⟩
            · replace hw := hw.2 hc6
              refine t_b C (pc' := 31) (L' := [(2, vI 0), (1, vI 0), (0, vA (some o))]) (st' := []) [(.iconst 0, 1), (.istore_n 1, 1), (.iconst 0, 1), (.istore_n 2, 1)] ⟨dX1_induces_27, dX1_induces_28, dX1_induces_29, dX1_induces_30, rfl⟩ rfl ?_
              obtain ⟨I7, ⟨n7, hI7⟩, hB7⟩ := tlp.out hw
              refine t_sub C (L' := [(0, vA (some o)), (1, vI 0), (2, vI 0)]) [2, 1, 0] rfl ?_
              have key7 : ∀ (n : Nat) (s7 : Int32 × Int32) (T8 : TS), I7 n s7 T8 → K 31 [(0, vA (some o)), (1, vI (s7.1)), (2, vI (s7.2))] [] T8 := by
                intro n
                induction n using Nat.strongRecOn with
                | ind n ih7 =>
                  intro s7 T8 hI
                  replace hw := hB7 n s7 T8 hI
                  refine t_b C (pc' := 33) (L' := [(0, vA (some o)), (1, vI (s7.1)), (2, vI (s7.2))]) (st' := [vA (some o), vI (s7.2)]) [(.iload_n 2, 1), (.aload_n 0, 1)] ⟨dX1_induces_31, dX1_induces_32, rfl⟩ rfl ?_
                  refine t_gA C 201 1 36 dX1_induces_33 rfl rfl rfl rfl rfl q2189 (fun _ _ _ => rfl) ?_
                  refine t_b C (pc' := 37) (L' := [(0, vA (some o)), (1, vI (s7.1)), (2, vI (s7.2))]) (st' := [vI 1, vA (some (o + 1 + 1)), vI (s7.2)]) [(.iconst 1, 1)] ⟨dX1_induces_36, rfl⟩ rfl ?_
                  refine t_iald C 38 dX1_induces_37 rfl hw.1 ?_
                  replace hw := hw.2
                  refine t_icmp_ge C 184 41 dX1_induces_38 rfl rfl (fun hc9 => ?_) (fun hc9 => ?_)
                  · replace hw := hw.1 hc9
                    refine t_goto C 23 dX1_induces_184 rfl ?_
                    refine t_sub C (L' := [(0, vA (some o)), (1, vI (s7.1))]) [0, 1] rfl ?_
                    obtain ⟨m9, hm9, hw⟩ := hw
                    exact ih4 m9 hm9 s7.1 T8 hw
                  · replace hw := hw.2 hc9
                    refine t_b C (pc' := 43) (L' := [(0, vA (some o)), (1, vI (s7.1)), (2, vI (s7.2))]) (st' := [vI (s7.2), vA (some o)]) [(.aload_n 0, 1), (.iload_n 2, 1)] ⟨dX1_induces_41, dX1_induces_42, rfl⟩ rfl ?_
                    refine t_callVV C 46 [vI (s7.2)] [] dX1_induces_43 rfl (ok_X1_laysClosed hG hw) q2562 q2564 qs94 q159 q2565 hd_X1_laysClosed ⟨rfl, rfl, rfl⟩ (fun T10 hw => ?_)
                    refine t_b C (pc' := 48) (L' := [(3, vI 0), (0, vA (some o)), (1, vI (s7.1)), (2, vI (s7.2))]) (st' := []) [(.iconst 0, 1), (.istore_n 3, 1)] ⟨dX1_induces_46, dX1_induces_47, rfl⟩ rfl ?_
                    obtain ⟨I12, ⟨n12, hI12⟩, hB12⟩ := tlp.out hw
                    refine t_sub C (L' := [(0, vA (some o)), (1, vI (s7.1)), (2, vI (s7.2)), (3, vI 0)]) [1, 2, 3, 0] rfl ?_
                    have key12 : ∀ (n : Nat) (s12 : Int32 × Int32) (T13 : TS), I12 n s12 T13 → K 48 [(0, vA (some o)), (1, vI (s12.1)), (2, vI (s7.2)), (3, vI (s12.2))] [] T13 := by
                      intro n
                      induction n using Nat.strongRecOn with
                      | ind n ih12 =>
                        intro s12 T13 hI
                        replace hw := hB12 n s12 T13 hI
                        refine t_b C (pc' := 50) (L' := [(0, vA (some o)), (1, vI (s12.1)), (2, vI (s7.2)), (3, vI (s12.2))]) (st' := [vA (some o), vI (s12.2)]) [(.iload_n 3, 1), (.aload_n 0, 1)] ⟨dX1_induces_48, dX1_induces_49, rfl⟩ rfl ?_
                        refine t_gA C 201 1 53 dX1_induces_50 rfl rfl rfl rfl rfl q2189 (fun _ _ _ => rfl) ?_
                        refine t_b C (pc' := 57) (L' := [(0, vA (some o)), (1, vI (s12.1)), (2, vI (s7.2)), (3, vI (s12.2))]) (st' := [vI (32 + s7.2), vA (some (o + 1 + 1)), vI (s12.2)]) [(.bipush 32, 2), (.iload_n 2, 1), (.iadd, 1)] ⟨dX1_induces_53, dX1_induces_55, dX1_induces_56, rfl⟩ rfl ?_
                        refine t_iald C 58 dX1_induces_57 rfl hw.1 ?_
                        replace hw := hw.2
                        refine t_icmp_gt C 178 61 dX1_induces_58 rfl rfl (fun hc14 => ?_) (fun hc14 => ?_)
                        · replace hw := hw.1 hc14
                          refine t_b C (pc' := 181) (L' := [(2, vI (s7.2 + 1)), (0, vA (some o)), (1, vI (s12.1)), (3, vI (s12.2))]) (st' := []) [(.iinc 2 1, 3)] ⟨dX1_induces_178, rfl⟩ rfl ?_
                          refine t_goto C 31 dX1_induces_181 rfl ?_
                          refine t_sub C (L' := [(0, vA (some o)), (1, vI (s12.1)), (2, vI (s7.2 + 1))]) [1, 2, 0] rfl ?_
                          obtain ⟨m9, hm9, hw⟩ := hw
                          exact ih7 m9 hm9 (s12.1, (s7.2 + 1)) T13 hw
                        · replace hw := hw.2 hc14
                          refine t_b C (pc' := 62) (L' := [(0, vA (some o)), (1, vI (s12.1)), (2, vI (s7.2)), (3, vI (s12.2))]) (st' := [vA (some o)]) [(.aload_n 0, 1)] ⟨dX1_induces_61, rfl⟩ rfl ?_
                          refine t_gA C 201 1 65 dX1_induces_62 rfl rfl rfl rfl rfl q2189 (fun _ _ _ => rfl) ?_
                          refine t_b C (pc' := 67) (L' := [(0, vA (some o)), (1, vI (s12.1)), (2, vI (s7.2)), (3, vI (s12.2))]) (st' := [vI (s12.2), vI (s7.2), vA (some (o + 1 + 1))]) [(.iload_n 2, 1), (.iload_n 3, 1)] ⟨dX1_induces_65, dX1_induces_66, rfl⟩ rfl ?_
                          refine t_callSI C 70 [vA (some (o + 1 + 1)), vI (s7.2), vI (s12.2)] [] dX1_induces_67 rfl (ok_X1_symbolAt hG hw) q2520 q2521 q159 q2522 hd_X1_symbolAt ⟨rfl, rfl, rfl⟩ (fun r16 T15 hw => ?_)
                          refine t_b C (pc' := 75) (L' := [(5, vI 0), (4, vI r16), (0, vA (some o)), (1, vI (s12.1)), (2, vI (s7.2)), (3, vI (s12.2))]) (st' := []) [(.istore 4, 2), (.iconst 0, 1), (.istore 5, 2)] ⟨dX1_induces_70, dX1_induces_72, dX1_induces_73, rfl⟩ rfl ?_
                          obtain ⟨I17, ⟨n17, hI17⟩, hB17⟩ := tlp.out hw
                          refine t_sub C (L' := [(0, vA (some o)), (1, vI (s12.1)), (2, vI (s7.2)), (3, vI (s12.2)), (4, vI r16), (5, vI 0)]) [2, 3, 4, 5, 1, 0] rfl ?_
                          have key17 : ∀ (n : Nat) (s17 : Int32 × Int32) (T18 : TS), I17 n s17 T18 → K 75 [(0, vA (some o)), (1, vI (s17.1)), (2, vI (s7.2)), (3, vI (s12.2)), (4, vI r16), (5, vI (s17.2))] [] T18 := by
                            intro n
                            induction n using Nat.strongRecOn with
                            | ind n ih17 =>
                              intro s17 T18 hI
                              replace hw := hB17 n s17 T18 hI
                              refine t_b C (pc' := 80) (L' := [(0, vA (some o)), (1, vI (s17.1)), (2, vI (s7.2)), (3, vI (s12.2)), (4, vI r16), (5, vI (s17.2))]) (st' := [vI r16, vA (some o), vI (s17.2)]) [(.iload 5, 2), (.aload_n 0, 1), (.iload 4, 2)] ⟨dX1_induces_75, dX1_induces_77, dX1_induces_78, rfl⟩ rfl ?_
                              refine t_callVI C 83 [vI r16] [vI (s17.2)] dX1_induces_80 rfl (ok_X1_attributes hG hw) q2578 q2580 qs98 q159 q2581 hd_X1_attributes ⟨rfl, rfl, rfl⟩ (fun r20 T19 hw => ?_)
                              refine t_icmp_ge C 172 86 dX1_induces_83 rfl rfl (fun hc21 => ?_) (fun hc21 => ?_)
                              · replace hw := hw.1 hc21
                                refine t_b C (pc' := 175) (L' := [(3, vI (s12.2 + 1)), (0, vA (some o)), (1, vI (s17.1)), (2, vI (s7.2)), (4, vI r16), (5, vI (s17.2))]) (st' := []) [(.iinc 3 1, 3)] ⟨dX1_induces_172, rfl⟩ rfl ?_
                                refine t_goto C 48 dX1_induces_175 rfl ?_
                                refine t_sub C (L' := [(0, vA (some o)), (1, vI (s17.1)), (2, vI (s7.2)), (3, vI (s12.2 + 1))]) [1, 2, 3, 0] rfl ?_
                                obtain ⟨m9, hm9, hw⟩ := hw
                                exact ih12 m9 hm9 (s17.1, (s12.2 + 1)) T19 hw
                              · replace hw := hw.2 hc21
                                refine t_b C (pc' := 87) (L' := [(0, vA (some o)), (1, vI (s17.1)), (2, vI (s7.2)), (3, vI (s12.2)), (4, vI r16), (5, vI (s17.2))]) (st' := [vA (some o)]) [(.aload_n 0, 1)] ⟨dX1_induces_86, rfl⟩ rfl ?_
                                refine t_gA C 222 5 90 dX1_induces_87 rfl rfl rfl rfl rfl q2210 (fun _ _ _ => rfl) ?_
                                refine t_b C (pc' := 98) (L' := [(0, vA (some o)), (1, vI (s17.1)), (2, vI (s7.2)), (3, vI (s12.2)), (4, vI r16), (5, vI (s17.2))]) (st' := [vI ((8 * r16) + s17.2), vA (some (o + 1 + 5))]) [(.bipush 8, 2), (.iload 4, 2), (.imul, 1), (.iload 5, 2), (.iadd, 1)] ⟨dX1_induces_90, dX1_induces_92, dX1_induces_94, dX1_induces_95, dX1_induces_97, rfl⟩ rfl ?_
                                refine t_iald C 99 dX1_induces_98 rfl hw.1 ?_
                                replace hw := hw.2
                                refine t_b C (pc' := 100) (L' := [(0, vA (some o)), (1, vI (s17.1)), (2, vI (s7.2)), (3, vI (s12.2)), (4, vI r16), (5, vI (s17.2))]) (st' := [vA (some o), vI (T19.a 5 (ni ((8 * r16) + s17.2)))]) [(.aload_n 0, 1)] ⟨dX1_induces_99, rfl⟩ rfl ?_
                                refine t_gA C 223 6 103 dX1_induces_100 rfl rfl rfl rfl rfl q2211 (fun _ _ _ => rfl) ?_
                                refine t_b C (pc' := 110) (L' := [(0, vA (some o)), (1, vI (s17.1)), (2, vI (s7.2)), (3, vI (s12.2)), (4, vI r16), (5, vI (s17.2))]) (st' := [vI ((8 * s12.2) + s17.2), vA (some (o + 1 + 6)), vI (T19.a 5 (ni ((8 * r16) + s17.2)))]) [(.bipush 8, 2), (.iload_n 3, 1), (.imul, 1), (.iload 5, 2), (.iadd, 1)] ⟨dX1_induces_103, dX1_induces_105, dX1_induces_106, dX1_induces_107, dX1_induces_109, rfl⟩ rfl ?_
                                refine t_iald C 111 dX1_induces_110 rfl hw.1 ?_
                                replace hw := hw.2
                                refine t_b C (pc' := 124) (L' := [(6, vI ((T19.a 5 (ni ((8 * r16) + s17.2))) ||| ((jushr (T19.a 6 (ni ((8 * s12.2) + s17.2))) (8 * s12.2)) &&& 255))), (0, vA (some o)), (1, vI (s17.1)), (2, vI (s7.2)), (3, vI (s12.2)), (4, vI r16), (5, vI (s17.2))]) (st' := [vI (s17.1)]) [(.bipush 8, 2), (.iload_n 3, 1), (.imul, 1), (.iushr, 1), (.sipush 255, 3), (.iand, 1), (.ior, 1), (.istore 6, 2), (.iload_n 1, 1)] ⟨dX1_induces_111, dX1_induces_113, dX1_induces_114, dX1_induces_115, dX1_induces_116, dX1_induces_119, dX1_induces_120, dX1_induces_121, dX1_induces_123, rfl⟩ rfl ?_
                                refine t_if_ne C 145 127 dX1_induces_124 rfl rfl (fun hc22 => ?_) (fun hc22 => ?_)
                                · replace hw := hw.2 hc22
                                  refine t_b C (pc' := 146) (L' := [(6, vI ((T19.a 5 (ni ((8 * r16) + s17.2))) ||| ((jushr (T19.a 6 (ni ((8 * s12.2) + s17.2))) (8 * s12.2)) &&& 255))), (0, vA (some o)), (1, vI (s17.1)), (2, vI (s7.2)), (3, vI (s12.2)), (4, vI r16), (5, vI (s17.2))]) (st' := [vI 1]) [(.iconst 1, 1)] ⟨dX1_induces_145, rfl⟩ rfl ?_
                                  refine t_goto C 150 dX1_induces_146 rfl ?_
                                  refine t_b C (pc' := 152) (L' := [(1, vI 1), (6, vI ((T19.a 5 (ni ((8 * r16) + s17.2))) ||| ((jushr (T19.a 6 (ni ((8 * s12.2) + s17.2))) (8 * s12.2)) &&& 255))), (0, vA (some o)), (2, vI (s7.2)), (3, vI (s12.2)), (4, vI r16), (5, vI (s17.2))]) (st' := [vA (some o)]) [(.istore_n 1, 1), (.aload_n 0, 1)] ⟨dX1_induces_150, dX1_induces_151, rfl⟩ rfl ?_
                                  refine t_gA C 222 5 155 dX1_induces_152 rfl rfl rfl rfl rfl q2210 (fun _ _ _ => rfl) ?_
                                  refine t_b C (pc' := 165) (L' := [(1, vI 1), (6, vI ((T19.a 5 (ni ((8 * r16) + s17.2))) ||| ((jushr (T19.a 6 (ni ((8 * s12.2) + s17.2))) (8 * s12.2)) &&& 255))), (0, vA (some o)), (2, vI (s7.2)), (3, vI (s12.2)), (4, vI r16), (5, vI (s17.2))]) (st' := [vI ((T19.a 5 (ni ((8 * r16) + s17.2))) ||| ((jushr (T19.a 6 (ni ((8 * s12.2) + s17.2))) (8 * s12.2)) &&& 255)), vI ((8 * r16) + s17.2), vA (some (o + 1 + 5))]) [(.bipush 8, 2), (.iload 4, 2), (.imul, 1), (.iload 5, 2), (.iadd, 1), (.iload 6, 2)] ⟨dX1_induces_155, dX1_induces_157, dX1_induces_159, dX1_induces_160, dX1_induces_162, dX1_induces_163, rfl⟩ rfl ?_
                                  refine t_iast C 166 dX1_induces_165 rfl hw.1 (fun T23 eT23 => ?_)
                                  replace hw := hw.2 T23 eT23
                                  refine t_b C (pc' := 169) (L' := [(5, vI (s17.2 + 1)), (1, vI 1), (6, vI ((T19.a 5 (ni ((8 * r16) + s17.2))) ||| ((jushr (T19.a 6 (ni ((8 * s12.2) + s17.2))) (8 * s12.2)) &&& 255))), (0, vA (some o)), (2, vI (s7.2)), (3, vI (s12.2)), (4, vI r16)]) (st' := []) [(.iinc 5 1, 3)] ⟨dX1_induces_166, rfl⟩ rfl ?_
                                  refine t_goto C 75 dX1_induces_169 rfl ?_
                                  refine t_sub C (L' := [(0, vA (some o)), (1, vI 1), (2, vI (s7.2)), (3, vI (s12.2)), (4, vI r16), (5, vI (s17.2 + 1))]) [3, 1, 4, 5, 6, 0] rfl ?_
                                  obtain ⟨m9, hm9, hw⟩ := hw
                                  exact ih17 m9 hm9 (1, (s17.2 + 1)) T23 hw
                                · replace hw := hw.1 hc22
                                  refine t_b C (pc' := 130) (L' := [(6, vI ((T19.a 5 (ni ((8 * r16) + s17.2))) ||| ((jushr (T19.a 6 (ni ((8 * s12.2) + s17.2))) (8 * s12.2)) &&& 255))), (0, vA (some o)), (1, vI (s17.1)), (2, vI (s7.2)), (3, vI (s12.2)), (4, vI r16), (5, vI (s17.2))]) (st' := [vA (some o), vI ((T19.a 5 (ni ((8 * r16) + s17.2))) ||| ((jushr (T19.a 6 (ni ((8 * s12.2) + s17.2))) (8 * s12.2)) &&& 255))]) [(.iload 6, 2), (.aload_n 0, 1)] ⟨dX1_induces_127, dX1_induces_129, rfl⟩ rfl ?_
                                  refine t_gA C 222 5 133 dX1_induces_130 rfl rfl rfl rfl rfl q2210 (fun _ _ _ => rfl) ?_
                                  refine t_b C (pc' := 141) (L' := [(6, vI ((T19.a 5 (ni ((8 * r16) + s17.2))) ||| ((jushr (T19.a 6 (ni ((8 * s12.2) + s17.2))) (8 * s12.2)) &&& 255))), (0, vA (some o)), (1, vI (s17.1)), (2, vI (s7.2)), (3, vI (s12.2)), (4, vI r16), (5, vI (s17.2))]) (st' := [vI ((8 * r16) + s17.2), vA (some (o + 1 + 5)), vI ((T19.a 5 (ni ((8 * r16) + s17.2))) ||| ((jushr (T19.a 6 (ni ((8 * s12.2) + s17.2))) (8 * s12.2)) &&& 255))]) [(.bipush 8, 2), (.iload 4, 2), (.imul, 1), (.iload 5, 2), (.iadd, 1)] ⟨dX1_induces_133, dX1_induces_135, dX1_induces_137, dX1_induces_138, dX1_induces_140, rfl⟩ rfl ?_
                                  refine t_iald C 142 dX1_induces_141 rfl hw.1 ?_
                                  replace hw := hw.2
                                  have kj25 : ∀ (m24 : Int32), m24 = (if ((T19.a 5 (ni ((8 * r16) + s17.2))) ||| ((jushr (T19.a 6 (ni ((8 * s12.2) + s17.2))) (8 * s12.2)) &&& 255)) = (T19.a 5 (ni ((8 * r16) + s17.2))) then 0 else 1) → K 150 [(0, vA (some o)), (2, vI (s7.2)), (3, vI (s12.2)), (4, vI r16), (5, vI (s17.2)), (6, vI ((T19.a 5 (ni ((8 * r16) + s17.2))) ||| ((jushr (T19.a 6 (ni ((8 * s12.2) + s17.2))) (8 * s12.2)) &&& 255)))] [vI m24] T19 := by
                                    intro m24 em24
                                    replace hw := hw m24 em24
                                    refine t_b C (pc' := 152) (L' := [(1, vI m24), (0, vA (some o)), (2, vI (s7.2)), (3, vI (s12.2)), (4, vI r16), (5, vI (s17.2)), (6, vI ((T19.a 5 (ni ((8 * r16) + s17.2))) ||| ((jushr (T19.a 6 (ni ((8 * s12.2) + s17.2))) (8 * s12.2)) &&& 255)))]) (st' := [vA (some o)]) [(.istore_n 1, 1), (.aload_n 0, 1)] ⟨dX1_induces_150, dX1_induces_151, rfl⟩ rfl ?_
                                    refine t_gA C 222 5 155 dX1_induces_152 rfl rfl rfl rfl rfl q2210 (fun _ _ _ => rfl) ?_
                                    refine t_b C (pc' := 165) (L' := [(1, vI m24), (0, vA (some o)), (2, vI (s7.2)), (3, vI (s12.2)), (4, vI r16), (5, vI (s17.2)), (6, vI ((T19.a 5 (ni ((8 * r16) + s17.2))) ||| ((jushr (T19.a 6 (ni ((8 * s12.2) + s17.2))) (8 * s12.2)) &&& 255)))]) (st' := [vI ((T19.a 5 (ni ((8 * r16) + s17.2))) ||| ((jushr (T19.a 6 (ni ((8 * s12.2) + s17.2))) (8 * s12.2)) &&& 255)), vI ((8 * r16) + s17.2), vA (some (o + 1 + 5))]) [(.bipush 8, 2), (.iload 4, 2), (.imul, 1), (.iload 5, 2), (.iadd, 1), (.iload 6, 2)] ⟨dX1_induces_155, dX1_induces_157, dX1_induces_159, dX1_induces_160, dX1_induces_162, dX1_induces_163, rfl⟩ rfl ?_
                                    refine t_iast C 166 dX1_induces_165 rfl hw.1 (fun T26 eT26 => ?_)
                                    replace hw := hw.2 T26 eT26
                                    refine t_b C (pc' := 169) (L' := [(5, vI (s17.2 + 1)), (1, vI m24), (0, vA (some o)), (2, vI (s7.2)), (3, vI (s12.2)), (4, vI r16), (6, vI ((T19.a 5 (ni ((8 * r16) + s17.2))) ||| ((jushr (T19.a 6 (ni ((8 * s12.2) + s17.2))) (8 * s12.2)) &&& 255)))]) (st' := []) [(.iinc 5 1, 3)] ⟨dX1_induces_166, rfl⟩ rfl ?_
                                    refine t_goto C 75 dX1_induces_169 rfl ?_
                                    refine t_sub C (L' := [(0, vA (some o)), (1, vI m24), (2, vI (s7.2)), (3, vI (s12.2)), (4, vI r16), (5, vI (s17.2 + 1))]) [2, 1, 3, 4, 5, 0] rfl ?_
                                    obtain ⟨m9, hm9, hw⟩ := hw
                                    exact ih17 m9 hm9 (m24, (s17.2 + 1)) T26 hw
                                  refine t_icmp_eq C 149 145 dX1_induces_142 rfl rfl (fun hc27 => ?_) (fun hc27 => ?_)
                                  · refine t_b C (pc' := 150) (L' := [(6, vI ((T19.a 5 (ni ((8 * r16) + s17.2))) ||| ((jushr (T19.a 6 (ni ((8 * s12.2) + s17.2))) (8 * s12.2)) &&& 255))), (0, vA (some o)), (1, vI (s17.1)), (2, vI (s7.2)), (3, vI (s12.2)), (4, vI r16), (5, vI (s17.2))]) (st' := [vI 0]) [(.iconst 0, 1)] ⟨dX1_induces_149, rfl⟩ rfl ?_
                                    refine t_sub C (L' := [(0, vA (some o)), (2, vI (s7.2)), (3, vI (s12.2)), (4, vI r16), (5, vI (s17.2)), (6, vI ((T19.a 5 (ni ((8 * r16) + s17.2))) ||| ((jushr (T19.a 6 (ni ((8 * s12.2) + s17.2))) (8 * s12.2)) &&& 255)))]) [1, 3, 4, 5, 6, 0] rfl ?_
                                    exact kj25 _ ((if_pos hc27).symm)
                                  · refine t_b C (pc' := 146) (L' := [(6, vI ((T19.a 5 (ni ((8 * r16) + s17.2))) ||| ((jushr (T19.a 6 (ni ((8 * s12.2) + s17.2))) (8 * s12.2)) &&& 255))), (0, vA (some o)), (1, vI (s17.1)), (2, vI (s7.2)), (3, vI (s12.2)), (4, vI r16), (5, vI (s17.2))]) (st' := [vI 1]) [(.iconst 1, 1)] ⟨dX1_induces_145, rfl⟩ rfl ?_
                                    refine t_goto C 150 dX1_induces_146 rfl ?_
                                    refine t_sub C (L' := [(0, vA (some o)), (2, vI (s7.2)), (3, vI (s12.2)), (4, vI r16), (5, vI (s17.2)), (6, vI ((T19.a 5 (ni ((8 * r16) + s17.2))) ||| ((jushr (T19.a 6 (ni ((8 * s12.2) + s17.2))) (8 * s12.2)) &&& 255)))]) [1, 3, 4, 5, 6, 0] rfl ?_
                                    exact kj25 _ ((if_neg hc27).symm)
                          exact key17 n17 (s12.1, 0) T15 hI17
                    exact key12 n12 (s7.1, 0) T10 hI12
              exact key7 n7 (0, 0) T5 hI7
        exact key4 n4 1 T2 hI4
      · replace hw := hw.2 hc3
        refine t_b C (pc' := 9) (L' := [(0, vA (some o)), (1, vI s1)]) (st' := [vA (some o)]) [(.aload_n 0, 1)] ⟨dX1_induces_8, rfl⟩ rfl ?_
        refine t_gA C 222 5 12 dX1_induces_9 rfl rfl rfl rfl rfl q2210 (fun _ _ _ => rfl) ?_
        refine t_b C (pc' := 14) (L' := [(0, vA (some o)), (1, vI s1)]) (st' := [vI 0, vI s1, vA (some (o + 1 + 5))]) [(.iload_n 1, 1), (.iconst 0, 1)] ⟨dX1_induces_12, dX1_induces_13, rfl⟩ rfl ?_
        refine t_iast C 15 dX1_induces_14 rfl hw.1 (fun T28 eT28 => ?_)
        replace hw := hw.2 T28 eT28
        refine t_b C (pc' := 18) (L' := [(1, vI (s1 + 1)), (0, vA (some o))]) (st' := []) [(.iinc 1 1, 3)] ⟨dX1_induces_15, rfl⟩ rfl ?_
        refine t_goto C 2 dX1_induces_18 rfl ?_
        refine t_sub C (L' := [(0, vA (some o)), (1, vI (s1 + 1))]) [1, 0] rfl ?_
        obtain ⟨m9, hm9, hw⟩ := hw
        exact ih1 m9 hm9 (s1 + 1) T28 hw
  exact key1 n1 0 T hI1
def wp_X1_isWord (p0 : Int32) (T : TS) (Q : Int32 → TS → Prop) : Prop :=
  (((T.s 213) = 2 →
  wp_X1_wordOf p0 T fun r3 T2 =>
  ∀ m4 : Int32, m4 = (if (lg_cmp (T.w 218) r3) = 0 then 1 else 0) →
  bz m4 ∧ Q m4 T2) ∧ (¬ (T.s 213) = 2 →
  Q 0 T))
theorem hd_X1_isWord : yX1_isWord.cls = RX1 ∧ yX1_isWord.cls ≠ "java/lang/invoke/MethodHandle" ∧ yX1_isWord.cls ≠ "java/lang/invoke/VarHandle" ∧ (parseMethodDescriptor yX1_isWord.desc).map (fun d => d.parameters.length) = some 1 := by decide +kernel
theorem ok_X1_isWord {l : Launch} {D : va_G} {s0 : S0} (hG : G0 D s0) {o : Nat} {p0 : Int32} {T : TS} {Q : Int32 → TS → Prop} (hw : wp_X1_isWord p0 T Q) : OKt l D s0 o yX1_isWord cX1_isWord 2 (some .boolean) 2 47 [vA (some o), vI p0] T (TI Q) := by
  refine t_met hG rfl rfl (L0 := [(0, vA (some o)), (1, vI p0)]) rfl rfl ?_
  intro h K C
  unfold wp_X1_isWord at hw
  refine t_b C (pc' := 1) (L' := [(0, vA (some o)), (1, vI p0)]) (st' := [vA (some o)]) [(.aload_n 0, 1)] ⟨dX1_isWord_0, rfl⟩ rfl ?_
  refine t_gI C 213 4 dX1_isWord_1 rfl rfl rfl q2201 (fun _ _ _ => rfl) ?_
  refine t_b C (pc' := 5) (L' := [(0, vA (some o)), (1, vI p0)]) (st' := [vI 2, vI (T.s 213)]) [(.iconst 2, 1)] ⟨dX1_isWord_4, rfl⟩ rfl ?_
  refine t_icmp_ne C 24 8 dX1_isWord_5 rfl rfl (fun hc1 => ?_) (fun hc1 => ?_)
  · replace hw := hw.2 hc1
    refine t_b C (pc' := 25) (L' := [(0, vA (some o)), (1, vI p0)]) (st' := [vI 0]) [(.iconst 0, 1)] ⟨dX1_isWord_24, rfl⟩ rfl ?_
    exact t_zret C dX1_isWord_25 rfl ⟨_, rfl, hw⟩
  · replace hw := hw.1 hc1
    refine t_b C (pc' := 9) (L' := [(0, vA (some o)), (1, vI p0)]) (st' := [vA (some o)]) [(.aload_n 0, 1)] ⟨dX1_isWord_8, rfl⟩ rfl ?_
    refine t_gJ C 218 12 dX1_isWord_9 rfl rfl rfl q2206 (fun _ _ _ => rfl) ?_
    refine t_b C (pc' := 13) (L' := [(0, vA (some o)), (1, vI p0)]) (st' := [vI p0, vJ (T.w 218)]) [(.iload_n 1, 1)] ⟨dX1_isWord_12, rfl⟩ rfl ?_
    refine t_callSJ C 16 [vI p0] [vJ (T.w 218)] dX1_isWord_13 rfl (ok_X1_wordOf hG hw) q2469 q2470 q159 q2471 hd_X1_wordOf ⟨rfl, rfl, rfl⟩ (fun r3 T2 hw => ?_)
    refine t_b C (pc' := 17) (L' := [(0, vA (some o)), (1, vI p0)]) (st' := [vI (lg_cmp (T.w 218) r3)]) [(.lcmp, 1)] ⟨dX1_isWord_16, rfl⟩ rfl ?_
    have kj5 : ∀ (m4 : Int32), m4 = (if (lg_cmp (T.w 218) r3) = 0 then 1 else 0) → K 25 [] [vI m4] T2 := by
      intro m4 em4
      replace hw := hw m4 em4
      exact t_zret C dX1_isWord_25 (bz_n hw.1) ⟨_, rfl, hw.2⟩
    refine t_if_ne C 24 20 dX1_isWord_17 rfl rfl (fun hc6 => ?_) (fun hc6 => ?_)
    · refine t_b C (pc' := 25) (L' := [(0, vA (some o)), (1, vI p0)]) (st' := [vI 0]) [(.iconst 0, 1)] ⟨dX1_isWord_24, rfl⟩ rfl ?_
      refine t_sub C (L' := []) [] rfl ?_
      exact kj5 _ ((if_neg hc6).symm)
    · refine t_b C (pc' := 21) (L' := [(0, vA (some o)), (1, vI p0)]) (st' := [vI 1]) [(.iconst 1, 1)] ⟨dX1_isWord_20, rfl⟩ rfl ?_
      refine t_goto C 25 dX1_isWord_21 rfl ?_
      refine t_sub C (L' := []) [] rfl ?_
      exact kj5 _ ((if_pos hc6).symm)
def wp_X1_readProduction  (T : TS) (Q : Int32 → TS → Prop) : Prop :=
  tix 2 40 1 ∧
  (((T.a 2 (ni 1)) = 12 →
  wp_X1_bad 6 T fun r60 T59 =>
  bz r60 ∧ Q r60 T59) ∧ (¬ (T.a 2 (ni 1)) = 12 →
  wp_X1_go  T fun T2 =>
  wp_X1_isName  T2 fun r5 T4 =>
  ((r5 = 0 →
  wp_X1_bad 2 T4 fun r58 T57 =>
  bz r58 ∧ Q r58 T57) ∧ (¬ r5 = 0 →
  wp_X1_findIn 4 8 (T.a 2 (ni 1)) (T4.w 218) T4 fun r8 T7 =>
  ((r8 = (-1) →
  tix 4 43 (8 + (T.a 2 (ni 1))) ∧
  ∀ T10, T10 = T7.sl 4 (ni (8 + (T.a 2 (ni 1)))) (T7.w 218) →
  wp_X1_go  T10 fun T11 =>
  wp_X1_eats 58 T11 fun r14 T13 =>
  ((r14 = 0 →
  Q 0 T13) ∧ (¬ r14 = 0 →
  wp_X1_isName  T13 fun r17 T16 =>
  ((r17 = 0 →
  wp_X1_bad 2 T16 fun r54 T53 =>
  bz r54 ∧ Q r54 T53) ∧ (¬ r17 = 0 →
  tix 2 40 0 ∧
  wp_X1_findIn 4 0 (T16.a 2 (ni 0)) (T16.w 218) T16 fun r20 T19 =>
  ((r20 = (-1) →
  wp_X1_bad 3 T19 fun r52 T51 =>
  bz r52 ∧ Q r52 T51) ∧ (¬ r20 = (-1) →
  tix 2 40 (20 + (T.a 2 (ni 1))) ∧
  ∀ T22, T22 = T19.sa 2 (ni (20 + (T.a 2 (ni 1)))) r20 →
  tix 2 40 (32 + (T.a 2 (ni 1))) ∧
  ∀ T23, T23 = T22.sa 2 (ni (32 + (T.a 2 (ni 1)))) 0 →
  wp_X1_go  T23 fun T24 =>
  tlp (σ := Unit) (fun s26 T27 k26 =>
  wp_X1_isName  T27 fun r29 T28 =>
  ((r29 = 0 →
  tlp (σ := Int32) (fun s31 T32 k31 =>
  ((32 ≤ s31 →
  tix 2 40 1 ∧
  tix 2 40 1 ∧
  ∀ T34, T34 = T32.sa 2 (ni 1) ((T32.a 2 (ni 1)) + 1) →
  Q 1 T34) ∧ (¬ 32 ≤ s31 →
  tix 2 40 ((1232 + (32 * (T.a 2 (ni 1)))) + s31) ∧
  ∀ T35, T35 = T32.sa 2 (ni ((1232 + (32 * (T.a 2 (ni 1)))) + s31)) 0 →
  tix 2 40 ((848 + (32 * (T.a 2 (ni 1)))) + s31) ∧
  ∀ T36, T36 = T35.sa 2 (ni ((848 + (32 * (T.a 2 (ni 1)))) + s31)) 0 →
  tix 2 40 ((80 + (32 * (T.a 2 (ni 1)))) + s31) ∧
  ∀ T37, T37 = T36.sa 2 (ni ((80 + (32 * (T.a 2 (ni 1)))) + s31)) 0 →
  tix 2 40 ((464 + (32 * (T.a 2 (ni 1)))) + s31) ∧
  ∀ T38, T38 = T37.sa 2 (ni ((464 + (32 * (T.a 2 (ni 1)))) + s31)) 0 →
  k31 (s31 + 1) T38))) 0 T28) ∧ (¬ r29 = 0 →
  tix 2 40 0 ∧
  wp_X1_findIn 4 0 (T28.a 2 (ni 0)) (T28.w 218) T28 fun r40 T39 =>
  ((r40 = (-1) →
  wp_X1_bad 3 T39 fun r50 T49 =>
  bz r50 ∧ Q r50 T49) ∧ (¬ r40 = (-1) →
  tix 2 40 (32 + (T.a 2 (ni 1))) ∧
  (((T39.a 2 (ni (32 + (T.a 2 (ni 1))))) = 3 →
  wp_X1_bad 6 T39 fun r48 T47 =>
  bz r48 ∧ Q r48 T47) ∧ (¬ (T39.a 2 (ni (32 + (T.a 2 (ni 1))))) = 3 →
  tix 2 40 (32 + (T.a 2 (ni 1))) ∧
  tix 2 40 ((44 + (3 * (T.a 2 (ni 1)))) + (T39.a 2 (ni (32 + (T.a 2 (ni 1)))))) ∧
  ∀ T43, T43 = T39.sa 2 (ni ((44 + (3 * (T.a 2 (ni 1)))) + (T39.a 2 (ni (32 + (T.a 2 (ni 1))))))) r40 →
  tix 2 40 (32 + (T.a 2 (ni 1))) ∧
  tix 2 40 (32 + (T.a 2 (ni 1))) ∧
  ∀ T44, T44 = T43.sa 2 (ni (32 + (T.a 2 (ni 1)))) ((T43.a 2 (ni (32 + (T.a 2 (ni 1))))) + 1) →
  wp_X1_go  T44 fun T45 =>
  k26 () T45))))))) () T24))))))) ∧ (¬ r8 = (-1) →
  wp_X1_bad 4 T7 fun r56 T55 =>
  bz r56 ∧ Q r56 T55))))))
theorem hd_X1_readProduction : yX1_readProduction.cls = RX1 ∧ yX1_readProduction.cls ≠ "java/lang/invoke/MethodHandle" ∧ yX1_readProduction.cls ≠ "java/lang/invoke/VarHandle" ∧ (parseMethodDescriptor yX1_readProduction.desc).map (fun d => d.parameters.length) = some 0 := by decide +kernel
theorem ok_X1_readProduction {l : Launch} {D : va_G} {s0 : S0} (hG : G0 D s0) {o : Nat}  {T : TS} {Q : Int32 → TS → Prop} (hw : wp_X1_readProduction  T Q) : OKt l D s0 o yX1_readProduction cX1_readProduction 4 (some .boolean) 3 68 [vA (some o)] T (TI Q) := by
  refine t_met hG rfl rfl (L0 := [(0, vA (some o))]) rfl rfl ?_
  intro h K C
  unfold wp_X1_readProduction at hw
  refine t_b C (pc' := 1) (L' := [(0, vA (some o))]) (st' := [vA (some o)]) [(.aload_n 0, 1)] ⟨dX1_readProduction_0, rfl⟩ rfl ?_
  refine t_gA C 202 2 4 dX1_readProduction_1 rfl rfl rfl rfl rfl q2190 (fun _ _ _ => rfl) ?_
  refine t_b C (pc' := 5) (L' := [(0, vA (some o))]) (st' := [vI 1, vA (some (o + 1 + 2))]) [(.iconst 1, 1)] ⟨dX1_readProduction_4, rfl⟩ rfl ?_
  refine t_iald C 6 dX1_readProduction_5 rfl hw.1 ?_
  replace hw := hw.2
  refine t_b C (pc' := 10) (L' := [(1, vI (T.a 2 (ni 1))), (0, vA (some o))]) (st' := [vI 12, vI (T.a 2 (ni 1))]) [(.istore_n 1, 1), (.iload_n 1, 1), (.bipush 12, 2)] ⟨dX1_readProduction_6, dX1_readProduction_7, dX1_readProduction_8, rfl⟩ rfl ?_
  refine t_icmp_ne C 20 13 dX1_readProduction_10 rfl rfl (fun hc1 => ?_) (fun hc1 => ?_)
  · replace hw := hw.2 hc1
    refine t_b C (pc' := 21) (L' := [(1, vI (T.a 2 (ni 1))), (0, vA (some o))]) (st' := [vA (some o)]) [(.aload_n 0, 1)] ⟨dX1_readProduction_20, rfl⟩ rfl ?_
    refine t_callVV C 24 [] [] dX1_readProduction_21 rfl (ok_X1_go hG hw) q2442 q2444 qs72 q159 q2445 hd_X1_go ⟨rfl, rfl, rfl⟩ (fun T2 hw => ?_)
    refine t_b C (pc' := 25) (L' := [(1, vI (T.a 2 (ni 1))), (0, vA (some o))]) (st' := [vA (some o)]) [(.aload_n 0, 1)] ⟨dX1_readProduction_24, rfl⟩ rfl ?_
    refine t_callVI C 28 [] [] dX1_readProduction_25 rfl (ok_X1_isName hG hw) q2483 q2485 qs78 q159 q2486 hd_X1_isName ⟨rfl, rfl, rfl⟩ (fun r5 T4 hw => ?_)
    refine t_if_ne C 37 31 dX1_readProduction_28 rfl rfl (fun hc6 => ?_) (fun hc6 => ?_)
    · replace hw := hw.2 hc6
      refine t_b C (pc' := 38) (L' := [(1, vI (T.a 2 (ni 1))), (0, vA (some o))]) (st' := [vA (some o)]) [(.aload_n 0, 1)] ⟨dX1_readProduction_37, rfl⟩ rfl ?_
      refine t_gA C 204 4 41 dX1_readProduction_38 rfl rfl rfl rfl rfl q2192 (fun _ _ _ => rfl) ?_
      refine t_b C (pc' := 45) (L' := [(1, vI (T.a 2 (ni 1))), (0, vA (some o))]) (st' := [vA (some o), vI (T.a 2 (ni 1)), vI 8, vA (some (o + 1 + 4))]) [(.bipush 8, 2), (.iload_n 1, 1), (.aload_n 0, 1)] ⟨dX1_readProduction_41, dX1_readProduction_43, dX1_readProduction_44, rfl⟩ rfl ?_
      refine t_gJ C 218 48 dX1_readProduction_45 rfl rfl rfl q2206 (fun _ _ _ => rfl) ?_
      refine t_callSI C 51 [vA (some (o + 1 + 4)), vI 8, vI (T.a 2 (ni 1)), vJ (T4.w 218)] [] dX1_readProduction_48 rfl (ok_X1_findIn hG hw) q2487 q2488 q159 q2489 hd_X1_findIn ⟨rfl, rfl, rfl⟩ (fun r8 T7 hw => ?_)
      refine t_b C (pc' := 52) (L' := [(1, vI (T.a 2 (ni 1))), (0, vA (some o))]) (st' := [vI (-1), vI r8]) [(.iconst (-1), 1)] ⟨dX1_readProduction_51, rfl⟩ rfl ?_
      refine t_icmp_eq C 61 55 dX1_readProduction_52 rfl rfl (fun hc9 => ?_) (fun hc9 => ?_)
      · replace hw := hw.1 hc9
        refine t_b C (pc' := 62) (L' := [(1, vI (T.a 2 (ni 1))), (0, vA (some o))]) (st' := [vA (some o)]) [(.aload_n 0, 1)] ⟨dX1_readProduction_61, rfl⟩ rfl ?_
        refine t_gA C 204 4 65 dX1_readProduction_62 rfl rfl rfl rfl rfl q2192 (fun _ _ _ => rfl) ?_
        refine t_b C (pc' := 70) (L' := [(1, vI (T.a 2 (ni 1))), (0, vA (some o))]) (st' := [vA (some o), vI (8 + (T.a 2 (ni 1))), vA (some (o + 1 + 4))]) [(.bipush 8, 2), (.iload_n 1, 1), (.iadd, 1), (.aload_n 0, 1)] ⟨dX1_readProduction_65, dX1_readProduction_67, dX1_readProduction_68, dX1_readProduction_69, rfl⟩ rfl ?_
        refine t_gJ C 218 73 dX1_readProduction_70 rfl rfl rfl q2206 (fun _ _ _ => rfl) ?_
        refine t_last C 74 dX1_readProduction_73 rfl hw.1 (fun T10 eT10 => ?_)
        replace hw := hw.2 T10 eT10
        refine t_b C (pc' := 75) (L' := [(1, vI (T.a 2 (ni 1))), (0, vA (some o))]) (st' := [vA (some o)]) [(.aload_n 0, 1)] ⟨dX1_readProduction_74, rfl⟩ rfl ?_
        refine t_callVV C 78 [] [] dX1_readProduction_75 rfl (ok_X1_go hG hw) q2442 q2444 qs72 q159 q2445 hd_X1_go ⟨rfl, rfl, rfl⟩ (fun T11 hw => ?_)
        refine t_b C (pc' := 81) (L' := [(1, vI (T.a 2 (ni 1))), (0, vA (some o))]) (st' := [vI 58, vA (some o)]) [(.aload_n 0, 1), (.bipush 58, 2)] ⟨dX1_readProduction_78, dX1_readProduction_79, rfl⟩ rfl ?_
        refine t_callVI C 84 [vI 58] [] dX1_readProduction_81 rfl (ok_X1_eats hG hw) q2497 q2499 qs80 q159 q2500 hd_X1_eats ⟨rfl, rfl, rfl⟩ (fun r14 T13 hw => ?_)
        refine t_if_ne C 89 87 dX1_readProduction_84 rfl rfl (fun hc15 => ?_) (fun hc15 => ?_)
        · replace hw := hw.2 hc15
          refine t_b C (pc' := 90) (L' := [(1, vI (T.a 2 (ni 1))), (0, vA (some o))]) (st' := [vA (some o)]) [(.aload_n 0, 1)] ⟨dX1_readProduction_89, rfl⟩ rfl ?_
          refine t_callVI C 93 [] [] dX1_readProduction_90 rfl (ok_X1_isName hG hw) q2483 q2485 qs78 q159 q2486 hd_X1_isName ⟨rfl, rfl, rfl⟩ (fun r17 T16 hw => ?_)
          refine t_if_ne C 102 96 dX1_readProduction_93 rfl rfl (fun hc18 => ?_) (fun hc18 => ?_)
          · replace hw := hw.2 hc18
            refine t_b C (pc' := 103) (L' := [(1, vI (T.a 2 (ni 1))), (0, vA (some o))]) (st' := [vA (some o)]) [(.aload_n 0, 1)] ⟨dX1_readProduction_102, rfl⟩ rfl ?_
            refine t_gA C 204 4 106 dX1_readProduction_103 rfl rfl rfl rfl rfl q2192 (fun _ _ _ => rfl) ?_
            refine t_b C (pc' := 108) (L' := [(1, vI (T.a 2 (ni 1))), (0, vA (some o))]) (st' := [vA (some o), vI 0, vA (some (o + 1 + 4))]) [(.iconst 0, 1), (.aload_n 0, 1)] ⟨dX1_readProduction_106, dX1_readProduction_107, rfl⟩ rfl ?_
            refine t_gA C 202 2 111 dX1_readProduction_108 rfl rfl rfl rfl rfl q2190 (fun _ _ _ => rfl) ?_
            refine t_b C (pc' := 112) (L' := [(1, vI (T.a 2 (ni 1))), (0, vA (some o))]) (st' := [vI 0, vA (some (o + 1 + 2)), vI 0, vA (some (o + 1 + 4))]) [(.iconst 0, 1)] ⟨dX1_readProduction_111, rfl⟩ rfl ?_
            refine t_iald C 113 dX1_readProduction_112 rfl hw.1 ?_
            replace hw := hw.2
            refine t_b C (pc' := 114) (L' := [(1, vI (T.a 2 (ni 1))), (0, vA (some o))]) (st' := [vA (some o), vI (T16.a 2 (ni 0)), vI 0, vA (some (o + 1 + 4))]) [(.aload_n 0, 1)] ⟨dX1_readProduction_113, rfl⟩ rfl ?_
            refine t_gJ C 218 117 dX1_readProduction_114 rfl rfl rfl q2206 (fun _ _ _ => rfl) ?_
            refine t_callSI C 120 [vA (some (o + 1 + 4)), vI 0, vI (T16.a 2 (ni 0)), vJ (T16.w 218)] [] dX1_readProduction_117 rfl (ok_X1_findIn hG hw) q2487 q2488 q159 q2489 hd_X1_findIn ⟨rfl, rfl, rfl⟩ (fun r20 T19 hw => ?_)
            refine t_b C (pc' := 123) (L' := [(2, vI r20), (1, vI (T.a 2 (ni 1))), (0, vA (some o))]) (st' := [vI (-1), vI r20]) [(.istore_n 2, 1), (.iload_n 2, 1), (.iconst (-1), 1)] ⟨dX1_readProduction_120, dX1_readProduction_121, dX1_readProduction_122, rfl⟩ rfl ?_
            refine t_icmp_ne C 132 126 dX1_readProduction_123 rfl rfl (fun hc21 => ?_) (fun hc21 => ?_)
            · replace hw := hw.2 hc21
              refine t_b C (pc' := 133) (L' := [(2, vI r20), (1, vI (T.a 2 (ni 1))), (0, vA (some o))]) (st' := [vA (some o)]) [(.aload_n 0, 1)] ⟨dX1_readProduction_132, rfl⟩ rfl ?_
              refine t_gA C 202 2 136 dX1_readProduction_133 rfl rfl rfl rfl rfl q2190 (fun _ _ _ => rfl) ?_
              refine t_b C (pc' := 141) (L' := [(2, vI r20), (1, vI (T.a 2 (ni 1))), (0, vA (some o))]) (st' := [vI r20, vI (20 + (T.a 2 (ni 1))), vA (some (o + 1 + 2))]) [(.bipush 20, 2), (.iload_n 1, 1), (.iadd, 1), (.iload_n 2, 1)] ⟨dX1_readProduction_136, dX1_readProduction_138, dX1_readProduction_139, dX1_readProduction_140, rfl⟩ rfl ?_
              refine t_iast C 142 dX1_readProduction_141 rfl hw.1 (fun T22 eT22 => ?_)
              replace hw := hw.2 T22 eT22
              refine t_b C (pc' := 143) (L' := [(2, vI r20), (1, vI (T.a 2 (ni 1))), (0, vA (some o))]) (st' := [vA (some o)]) [(.aload_n 0, 1)] ⟨dX1_readProduction_142, rfl⟩ rfl ?_
              refine t_gA C 202 2 146 dX1_readProduction_143 rfl rfl rfl rfl rfl q2190 (fun _ _ _ => rfl) ?_
              refine t_b C (pc' := 151) (L' := [(2, vI r20), (1, vI (T.a 2 (ni 1))), (0, vA (some o))]) (st' := [vI 0, vI (32 + (T.a 2 (ni 1))), vA (some (o + 1 + 2))]) [(.bipush 32, 2), (.iload_n 1, 1), (.iadd, 1), (.iconst 0, 1)] ⟨dX1_readProduction_146, dX1_readProduction_148, dX1_readProduction_149, dX1_readProduction_150, rfl⟩ rfl ?_
              refine t_iast C 152 dX1_readProduction_151 rfl hw.1 (fun T23 eT23 => ?_)
              replace hw := hw.2 T23 eT23
              refine t_b C (pc' := 153) (L' := [(2, vI r20), (1, vI (T.a 2 (ni 1))), (0, vA (some o))]) (st' := [vA (some o)]) [(.aload_n 0, 1)] ⟨dX1_readProduction_152, rfl⟩ rfl ?_
              refine t_callVV C 156 [] [] dX1_readProduction_153 rfl (ok_X1_go hG hw) q2442 q2444 qs72 q159 q2445 hd_X1_go ⟨rfl, rfl, rfl⟩ (fun T24 hw => ?_)
              obtain ⟨I26, ⟨n26, hI26⟩, hB26⟩ := tlp.out hw
              refine t_sub C (L' := [(0, vA (some o)), (1, vI (T.a 2 (ni 1)))]) [2, 1] rfl ?_
              have key26 : ∀ (n : Nat) (s26 : Unit) (T27 : TS), I26 n s26 T27 → K 156 [(0, vA (some o)), (1, vI (T.a 2 (ni 1)))] [] T27 := by
                intro n
                induction n using Nat.strongRecOn with
                | ind n ih26 =>
                  intro s26 T27 hI
                  replace hw := hB26 n s26 T27 hI
                  refine t_b C (pc' := 157) (L' := [(0, vA (some o)), (1, vI (T.a 2 (ni 1)))]) (st' := [vA (some o)]) [(.aload_n 0, 1)] ⟨dX1_readProduction_156, rfl⟩ rfl ?_
                  refine t_callVI C 160 [] [] dX1_readProduction_157 rfl (ok_X1_isName hG hw) q2483 q2485 qs78 q159 q2486 hd_X1_isName ⟨rfl, rfl, rfl⟩ (fun r29 T28 hw => ?_)
                  refine t_if_eq C 255 163 dX1_readProduction_160 rfl rfl (fun hc30 => ?_) (fun hc30 => ?_)
                  · replace hw := hw.1 hc30
                    refine t_b C (pc' := 257) (L' := [(3, vI 0), (0, vA (some o)), (1, vI (T.a 2 (ni 1)))]) (st' := []) [(.iconst 0, 1), (.istore_n 3, 1)] ⟨dX1_readProduction_255, dX1_readProduction_256, rfl⟩ rfl ?_
                    obtain ⟨I31, ⟨n31, hI31⟩, hB31⟩ := tlp.out hw
                    refine t_sub C (L' := [(0, vA (some o)), (1, vI (T.a 2 (ni 1))), (3, vI 0)]) [1, 2, 0] rfl ?_
                    have key31 : ∀ (n : Nat) (s31 : Int32) (T32 : TS), I31 n s31 T32 → K 257 [(0, vA (some o)), (1, vI (T.a 2 (ni 1))), (3, vI s31)] [] T32 := by
                      intro n
                      induction n using Nat.strongRecOn with
                      | ind n ih31 =>
                        intro s31 T32 hI
                        replace hw := hB31 n s31 T32 hI
                        refine t_b C (pc' := 260) (L' := [(0, vA (some o)), (1, vI (T.a 2 (ni 1))), (3, vI s31)]) (st' := [vI 32, vI s31]) [(.iload_n 3, 1), (.bipush 32, 2)] ⟨dX1_readProduction_257, dX1_readProduction_258, rfl⟩ rfl ?_
                        refine t_icmp_ge C 332 263 dX1_readProduction_260 rfl rfl (fun hc33 => ?_) (fun hc33 => ?_)
                        · replace hw := hw.1 hc33
                          refine t_b C (pc' := 333) (L' := [(0, vA (some o)), (1, vI (T.a 2 (ni 1))), (3, vI s31)]) (st' := [vA (some o)]) [(.aload_n 0, 1)] ⟨dX1_readProduction_332, rfl⟩ rfl ?_
                          refine t_gA C 202 2 336 dX1_readProduction_333 rfl rfl rfl rfl rfl q2190 (fun _ _ _ => rfl) ?_
                          refine t_b C (pc' := 338) (L' := [(0, vA (some o)), (1, vI (T.a 2 (ni 1))), (3, vI s31)]) (st' := [vI 1, vA (some (o + 1 + 2)), vI 1, vA (some (o + 1 + 2))]) [(.iconst 1, 1), (.dup2, 1)] ⟨dX1_readProduction_336, dX1_readProduction_337, rfl⟩ rfl ?_
                          refine t_iald C 339 dX1_readProduction_338 rfl hw.1 ?_
                          replace hw := hw.2
                          refine t_b C (pc' := 341) (L' := [(0, vA (some o)), (1, vI (T.a 2 (ni 1))), (3, vI s31)]) (st' := [vI ((T32.a 2 (ni 1)) + 1), vI 1, vA (some (o + 1 + 2))]) [(.iconst 1, 1), (.iadd, 1)] ⟨dX1_readProduction_339, dX1_readProduction_340, rfl⟩ rfl ?_
                          refine t_iast C 342 dX1_readProduction_341 rfl hw.1 (fun T34 eT34 => ?_)
                          replace hw := hw.2 T34 eT34
                          refine t_b C (pc' := 343) (L' := [(0, vA (some o)), (1, vI (T.a 2 (ni 1))), (3, vI s31)]) (st' := [vI 1]) [(.iconst 1, 1)] ⟨dX1_readProduction_342, rfl⟩ rfl ?_
                          exact t_zret C dX1_readProduction_343 rfl ⟨_, rfl, hw⟩
                        · replace hw := hw.2 hc33
                          refine t_b C (pc' := 264) (L' := [(0, vA (some o)), (1, vI (T.a 2 (ni 1))), (3, vI s31)]) (st' := [vA (some o)]) [(.aload_n 0, 1)] ⟨dX1_readProduction_263, rfl⟩ rfl ?_
                          refine t_gA C 202 2 267 dX1_readProduction_264 rfl rfl rfl rfl rfl q2190 (fun _ _ _ => rfl) ?_
                          refine t_b C (pc' := 278) (L' := [(0, vA (some o)), (1, vI (T.a 2 (ni 1))), (3, vI s31)]) (st' := [vI 0, vI ((1232 + (32 * (T.a 2 (ni 1)))) + s31), vA (some (o + 1 + 2))]) [(.sipush 1232, 3), (.bipush 32, 2), (.iload_n 1, 1), (.imul, 1), (.iadd, 1), (.iload_n 3, 1), (.iadd, 1), (.iconst 0, 1)] ⟨dX1_readProduction_267, dX1_readProduction_270, dX1_readProduction_272, dX1_readProduction_273, dX1_readProduction_274, dX1_readProduction_275, dX1_readProduction_276, dX1_readProduction_277, rfl⟩ rfl ?_
                          refine t_iast C 279 dX1_readProduction_278 rfl hw.1 (fun T35 eT35 => ?_)
                          replace hw := hw.2 T35 eT35
                          refine t_b C (pc' := 280) (L' := [(0, vA (some o)), (1, vI (T.a 2 (ni 1))), (3, vI s31)]) (st' := [vA (some o)]) [(.aload_n 0, 1)] ⟨dX1_readProduction_279, rfl⟩ rfl ?_
                          refine t_gA C 202 2 283 dX1_readProduction_280 rfl rfl rfl rfl rfl q2190 (fun _ _ _ => rfl) ?_
                          refine t_b C (pc' := 294) (L' := [(0, vA (some o)), (1, vI (T.a 2 (ni 1))), (3, vI s31)]) (st' := [vI 0, vI ((848 + (32 * (T.a 2 (ni 1)))) + s31), vA (some (o + 1 + 2))]) [(.sipush 848, 3), (.bipush 32, 2), (.iload_n 1, 1), (.imul, 1), (.iadd, 1), (.iload_n 3, 1), (.iadd, 1), (.iconst 0, 1)] ⟨dX1_readProduction_283, dX1_readProduction_286, dX1_readProduction_288, dX1_readProduction_289, dX1_readProduction_290, dX1_readProduction_291, dX1_readProduction_292, dX1_readProduction_293, rfl⟩ rfl ?_
                          refine t_iast C 295 dX1_readProduction_294 rfl hw.1 (fun T36 eT36 => ?_)
                          replace hw := hw.2 T36 eT36
                          refine t_b C (pc' := 296) (L' := [(0, vA (some o)), (1, vI (T.a 2 (ni 1))), (3, vI s31)]) (st' := [vA (some o)]) [(.aload_n 0, 1)] ⟨dX1_readProduction_295, rfl⟩ rfl ?_
                          refine t_gA C 202 2 299 dX1_readProduction_296 rfl rfl rfl rfl rfl q2190 (fun _ _ _ => rfl) ?_
                          refine t_b C (pc' := 309) (L' := [(0, vA (some o)), (1, vI (T.a 2 (ni 1))), (3, vI s31)]) (st' := [vI 0, vI ((80 + (32 * (T.a 2 (ni 1)))) + s31), vA (some (o + 1 + 2))]) [(.bipush 80, 2), (.bipush 32, 2), (.iload_n 1, 1), (.imul, 1), (.iadd, 1), (.iload_n 3, 1), (.iadd, 1), (.iconst 0, 1)] ⟨dX1_readProduction_299, dX1_readProduction_301, dX1_readProduction_303, dX1_readProduction_304, dX1_readProduction_305, dX1_readProduction_306, dX1_readProduction_307, dX1_readProduction_308, rfl⟩ rfl ?_
                          refine t_iast C 310 dX1_readProduction_309 rfl hw.1 (fun T37 eT37 => ?_)
                          replace hw := hw.2 T37 eT37
                          refine t_b C (pc' := 311) (L' := [(0, vA (some o)), (1, vI (T.a 2 (ni 1))), (3, vI s31)]) (st' := [vA (some o)]) [(.aload_n 0, 1)] ⟨dX1_readProduction_310, rfl⟩ rfl ?_
                          refine t_gA C 202 2 314 dX1_readProduction_311 rfl rfl rfl rfl rfl q2190 (fun _ _ _ => rfl) ?_
                          refine t_b C (pc' := 325) (L' := [(0, vA (some o)), (1, vI (T.a 2 (ni 1))), (3, vI s31)]) (st' := [vI 0, vI ((464 + (32 * (T.a 2 (ni 1)))) + s31), vA (some (o + 1 + 2))]) [(.sipush 464, 3), (.bipush 32, 2), (.iload_n 1, 1), (.imul, 1), (.iadd, 1), (.iload_n 3, 1), (.iadd, 1), (.iconst 0, 1)] ⟨dX1_readProduction_314, dX1_readProduction_317, dX1_readProduction_319, dX1_readProduction_320, dX1_readProduction_321, dX1_readProduction_322, dX1_readProduction_323, dX1_readProduction_324, rfl⟩ rfl ?_
                          refine t_iast C 326 dX1_readProduction_325 rfl hw.1 (fun T38 eT38 => ?_)
                          replace hw := hw.2 T38 eT38
                          refine t_b C (pc' := 329) (L' := [(3, vI (s31 + 1)), (0, vA (some o)), (1, vI (T.a 2 (ni 1)))]) (st' := []) [(.iinc 3 1, 3)] ⟨dX1_readProduction_326, rfl⟩ rfl ?_
                          refine t_goto C 257 dX1_readProduction_329 rfl ?_
                          refine t_sub C (L' := [(0, vA (some o)), (1, vI (T.a 2 (ni 1))), (3, vI (s31 + 1))]) [1, 2, 0] rfl ?_
                          obtain ⟨m9, hm9, hw⟩ := hw
                          exact ih31 m9 hm9 (s31 + 1) T38 hw
                    exact key31 n31 0 T28 hI31
                  · replace hw := hw.2 hc30
                    refine t_b C (pc' := 164) (L' := [(0, vA (some o)), (1, vI (T.a 2 (ni 1)))]) (st' := [vA (some o)]) [(.aload_n 0, 1)] ⟨dX1_readProduction_163, rfl⟩ rfl ?_
                    refine t_gA C 204 4 167 dX1_readProduction_164 rfl rfl rfl rfl rfl q2192 (fun _ _ _ => rfl) ?_
                    refine t_b C (pc' := 169) (L' := [(0, vA (some o)), (1, vI (T.a 2 (ni 1)))]) (st' := [vA (some o), vI 0, vA (some (o + 1 + 4))]) [(.iconst 0, 1), (.aload_n 0, 1)] ⟨dX1_readProduction_167, dX1_readProduction_168, rfl⟩ rfl ?_
                    refine t_gA C 202 2 172 dX1_readProduction_169 rfl rfl rfl rfl rfl q2190 (fun _ _ _ => rfl) ?_
                    refine t_b C (pc' := 173) (L' := [(0, vA (some o)), (1, vI (T.a 2 (ni 1)))]) (st' := [vI 0, vA (some (o + 1 + 2)), vI 0, vA (some (o + 1 + 4))]) [(.iconst 0, 1)] ⟨dX1_readProduction_172, rfl⟩ rfl ?_
                    refine t_iald C 174 dX1_readProduction_173 rfl hw.1 ?_
                    replace hw := hw.2
                    refine t_b C (pc' := 175) (L' := [(0, vA (some o)), (1, vI (T.a 2 (ni 1)))]) (st' := [vA (some o), vI (T28.a 2 (ni 0)), vI 0, vA (some (o + 1 + 4))]) [(.aload_n 0, 1)] ⟨dX1_readProduction_174, rfl⟩ rfl ?_
                    refine t_gJ C 218 178 dX1_readProduction_175 rfl rfl rfl q2206 (fun _ _ _ => rfl) ?_
                    refine t_callSI C 181 [vA (some (o + 1 + 4)), vI 0, vI (T28.a 2 (ni 0)), vJ (T28.w 218)] [] dX1_readProduction_178 rfl (ok_X1_findIn hG hw) q2487 q2488 q159 q2489 hd_X1_findIn ⟨rfl, rfl, rfl⟩ (fun r40 T39 hw => ?_)
                    refine t_b C (pc' := 184) (L' := [(2, vI r40), (0, vA (some o)), (1, vI (T.a 2 (ni 1)))]) (st' := [vI (-1), vI r40]) [(.istore_n 2, 1), (.iload_n 2, 1), (.iconst (-1), 1)] ⟨dX1_readProduction_181, dX1_readProduction_182, dX1_readProduction_183, rfl⟩ rfl ?_
                    refine t_icmp_ne C 193 187 dX1_readProduction_184 rfl rfl (fun hc41 => ?_) (fun hc41 => ?_)
                    · replace hw := hw.2 hc41
                      refine t_b C (pc' := 194) (L' := [(2, vI r40), (0, vA (some o)), (1, vI (T.a 2 (ni 1)))]) (st' := [vA (some o)]) [(.aload_n 0, 1)] ⟨dX1_readProduction_193, rfl⟩ rfl ?_
                      refine t_gA C 202 2 197 dX1_readProduction_194 rfl rfl rfl rfl rfl q2190 (fun _ _ _ => rfl) ?_
                      refine t_b C (pc' := 201) (L' := [(2, vI r40), (0, vA (some o)), (1, vI (T.a 2 (ni 1)))]) (st' := [vI (32 + (T.a 2 (ni 1))), vA (some (o + 1 + 2))]) [(.bipush 32, 2), (.iload_n 1, 1), (.iadd, 1)] ⟨dX1_readProduction_197, dX1_readProduction_199, dX1_readProduction_200, rfl⟩ rfl ?_
                      refine t_iald C 202 dX1_readProduction_201 rfl hw.1 ?_
                      replace hw := hw.2
                      refine t_b C (pc' := 203) (L' := [(2, vI r40), (0, vA (some o)), (1, vI (T.a 2 (ni 1)))]) (st' := [vI 3, vI (T39.a 2 (ni (32 + (T.a 2 (ni 1)))))]) [(.iconst 3, 1)] ⟨dX1_readProduction_202, rfl⟩ rfl ?_
                      refine t_icmp_ne C 213 206 dX1_readProduction_203 rfl rfl (fun hc42 => ?_) (fun hc42 => ?_)
                      · replace hw := hw.2 hc42
                        refine t_b C (pc' := 214) (L' := [(2, vI r40), (0, vA (some o)), (1, vI (T.a 2 (ni 1)))]) (st' := [vA (some o)]) [(.aload_n 0, 1)] ⟨dX1_readProduction_213, rfl⟩ rfl ?_
                        refine t_gA C 202 2 217 dX1_readProduction_214 rfl rfl rfl rfl rfl q2190 (fun _ _ _ => rfl) ?_
                        refine t_b C (pc' := 224) (L' := [(2, vI r40), (0, vA (some o)), (1, vI (T.a 2 (ni 1)))]) (st' := [vA (some o), vI (44 + (3 * (T.a 2 (ni 1)))), vA (some (o + 1 + 2))]) [(.bipush 44, 2), (.iconst 3, 1), (.iload_n 1, 1), (.imul, 1), (.iadd, 1), (.aload_n 0, 1)] ⟨dX1_readProduction_217, dX1_readProduction_219, dX1_readProduction_220, dX1_readProduction_221, dX1_readProduction_222, dX1_readProduction_223, rfl⟩ rfl ?_
                        refine t_gA C 202 2 227 dX1_readProduction_224 rfl rfl rfl rfl rfl q2190 (fun _ _ _ => rfl) ?_
                        refine t_b C (pc' := 231) (L' := [(2, vI r40), (0, vA (some o)), (1, vI (T.a 2 (ni 1)))]) (st' := [vI (32 + (T.a 2 (ni 1))), vA (some (o + 1 + 2)), vI (44 + (3 * (T.a 2 (ni 1)))), vA (some (o + 1 + 2))]) [(.bipush 32, 2), (.iload_n 1, 1), (.iadd, 1)] ⟨dX1_readProduction_227, dX1_readProduction_229, dX1_readProduction_230, rfl⟩ rfl ?_
                        refine t_iald C 232 dX1_readProduction_231 rfl hw.1 ?_
                        replace hw := hw.2
                        refine t_b C (pc' := 234) (L' := [(2, vI r40), (0, vA (some o)), (1, vI (T.a 2 (ni 1)))]) (st' := [vI r40, vI ((44 + (3 * (T.a 2 (ni 1)))) + (T39.a 2 (ni (32 + (T.a 2 (ni 1)))))), vA (some (o + 1 + 2))]) [(.iadd, 1), (.iload_n 2, 1)] ⟨dX1_readProduction_232, dX1_readProduction_233, rfl⟩ rfl ?_
                        refine t_iast C 235 dX1_readProduction_234 rfl hw.1 (fun T43 eT43 => ?_)
                        replace hw := hw.2 T43 eT43
                        refine t_b C (pc' := 236) (L' := [(2, vI r40), (0, vA (some o)), (1, vI (T.a 2 (ni 1)))]) (st' := [vA (some o)]) [(.aload_n 0, 1)] ⟨dX1_readProduction_235, rfl⟩ rfl ?_
                        refine t_gA C 202 2 239 dX1_readProduction_236 rfl rfl rfl rfl rfl q2190 (fun _ _ _ => rfl) ?_
                        refine t_b C (pc' := 244) (L' := [(2, vI r40), (0, vA (some o)), (1, vI (T.a 2 (ni 1)))]) (st' := [vI (32 + (T.a 2 (ni 1))), vA (some (o + 1 + 2)), vI (32 + (T.a 2 (ni 1))), vA (some (o + 1 + 2))]) [(.bipush 32, 2), (.iload_n 1, 1), (.iadd, 1), (.dup2, 1)] ⟨dX1_readProduction_239, dX1_readProduction_241, dX1_readProduction_242, dX1_readProduction_243, rfl⟩ rfl ?_
                        refine t_iald C 245 dX1_readProduction_244 rfl hw.1 ?_
                        replace hw := hw.2
                        refine t_b C (pc' := 247) (L' := [(2, vI r40), (0, vA (some o)), (1, vI (T.a 2 (ni 1)))]) (st' := [vI ((T43.a 2 (ni (32 + (T.a 2 (ni 1))))) + 1), vI (32 + (T.a 2 (ni 1))), vA (some (o + 1 + 2))]) [(.iconst 1, 1), (.iadd, 1)] ⟨dX1_readProduction_245, dX1_readProduction_246, rfl⟩ rfl ?_
                        refine t_iast C 248 dX1_readProduction_247 rfl hw.1 (fun T44 eT44 => ?_)
                        replace hw := hw.2 T44 eT44
                        refine t_b C (pc' := 249) (L' := [(2, vI r40), (0, vA (some o)), (1, vI (T.a 2 (ni 1)))]) (st' := [vA (some o)]) [(.aload_n 0, 1)] ⟨dX1_readProduction_248, rfl⟩ rfl ?_
                        refine t_callVV C 252 [] [] dX1_readProduction_249 rfl (ok_X1_go hG hw) q2442 q2444 qs72 q159 q2445 hd_X1_go ⟨rfl, rfl, rfl⟩ (fun T45 hw => ?_)
                        refine t_goto C 156 dX1_readProduction_252 rfl ?_
                        refine t_sub C (L' := [(0, vA (some o)), (1, vI (T.a 2 (ni 1)))]) [1, 2] rfl ?_
                        obtain ⟨m9, hm9, hw⟩ := hw
                        exact ih26 m9 hm9 () T45 hw
                      · replace hw := hw.1 hc42
                        refine t_b C (pc' := 209) (L' := [(2, vI r40), (0, vA (some o)), (1, vI (T.a 2 (ni 1)))]) (st' := [vI 6, vA (some o)]) [(.aload_n 0, 1), (.bipush 6, 2)] ⟨dX1_readProduction_206, dX1_readProduction_207, rfl⟩ rfl ?_
                        refine t_callVI C 212 [vI 6] [] dX1_readProduction_209 rfl (ok_X1_bad hG hw) q2479 q2481 qs77 q159 q2482 hd_X1_bad ⟨rfl, rfl, rfl⟩ (fun r48 T47 hw => ?_)
                        exact t_zret C dX1_readProduction_212 (bz_n hw.1) ⟨_, rfl, hw.2⟩
                    · replace hw := hw.1 hc41
                      refine t_b C (pc' := 189) (L' := [(2, vI r40), (0, vA (some o)), (1, vI (T.a 2 (ni 1)))]) (st' := [vI 3, vA (some o)]) [(.aload_n 0, 1), (.iconst 3, 1)] ⟨dX1_readProduction_187, dX1_readProduction_188, rfl⟩ rfl ?_
                      refine t_callVI C 192 [vI 3] [] dX1_readProduction_189 rfl (ok_X1_bad hG hw) q2479 q2481 qs77 q159 q2482 hd_X1_bad ⟨rfl, rfl, rfl⟩ (fun r50 T49 hw => ?_)
                      exact t_zret C dX1_readProduction_192 (bz_n hw.1) ⟨_, rfl, hw.2⟩
              exact key26 n26 () T24 hI26
            · replace hw := hw.1 hc21
              refine t_b C (pc' := 128) (L' := [(2, vI r20), (1, vI (T.a 2 (ni 1))), (0, vA (some o))]) (st' := [vI 3, vA (some o)]) [(.aload_n 0, 1), (.iconst 3, 1)] ⟨dX1_readProduction_126, dX1_readProduction_127, rfl⟩ rfl ?_
              refine t_callVI C 131 [vI 3] [] dX1_readProduction_128 rfl (ok_X1_bad hG hw) q2479 q2481 qs77 q159 q2482 hd_X1_bad ⟨rfl, rfl, rfl⟩ (fun r52 T51 hw => ?_)
              exact t_zret C dX1_readProduction_131 (bz_n hw.1) ⟨_, rfl, hw.2⟩
          · replace hw := hw.1 hc18
            refine t_b C (pc' := 98) (L' := [(1, vI (T.a 2 (ni 1))), (0, vA (some o))]) (st' := [vI 2, vA (some o)]) [(.aload_n 0, 1), (.iconst 2, 1)] ⟨dX1_readProduction_96, dX1_readProduction_97, rfl⟩ rfl ?_
            refine t_callVI C 101 [vI 2] [] dX1_readProduction_98 rfl (ok_X1_bad hG hw) q2479 q2481 qs77 q159 q2482 hd_X1_bad ⟨rfl, rfl, rfl⟩ (fun r54 T53 hw => ?_)
            exact t_zret C dX1_readProduction_101 (bz_n hw.1) ⟨_, rfl, hw.2⟩
        · replace hw := hw.1 hc15
          refine t_b C (pc' := 88) (L' := [(1, vI (T.a 2 (ni 1))), (0, vA (some o))]) (st' := [vI 0]) [(.iconst 0, 1)] ⟨dX1_readProduction_87, rfl⟩ rfl ?_
          exact t_zret C dX1_readProduction_88 rfl ⟨_, rfl, hw⟩
      · replace hw := hw.2 hc9
        refine t_b C (pc' := 57) (L' := [(1, vI (T.a 2 (ni 1))), (0, vA (some o))]) (st' := [vI 4, vA (some o)]) [(.aload_n 0, 1), (.iconst 4, 1)] ⟨dX1_readProduction_55, dX1_readProduction_56, rfl⟩ rfl ?_
        refine t_callVI C 60 [vI 4] [] dX1_readProduction_57 rfl (ok_X1_bad hG hw) q2479 q2481 qs77 q159 q2482 hd_X1_bad ⟨rfl, rfl, rfl⟩ (fun r56 T55 hw => ?_)
        exact t_zret C dX1_readProduction_60 (bz_n hw.1) ⟨_, rfl, hw.2⟩
    · replace hw := hw.1 hc6
      refine t_b C (pc' := 33) (L' := [(1, vI (T.a 2 (ni 1))), (0, vA (some o))]) (st' := [vI 2, vA (some o)]) [(.aload_n 0, 1), (.iconst 2, 1)] ⟨dX1_readProduction_31, dX1_readProduction_32, rfl⟩ rfl ?_
      refine t_callVI C 36 [vI 2] [] dX1_readProduction_33 rfl (ok_X1_bad hG hw) q2479 q2481 qs77 q159 q2482 hd_X1_bad ⟨rfl, rfl, rfl⟩ (fun r58 T57 hw => ?_)
      exact t_zret C dX1_readProduction_36 (bz_n hw.1) ⟨_, rfl, hw.2⟩
  · replace hw := hw.1 hc1
    refine t_b C (pc' := 16) (L' := [(1, vI (T.a 2 (ni 1))), (0, vA (some o))]) (st' := [vI 6, vA (some o)]) [(.aload_n 0, 1), (.bipush 6, 2)] ⟨dX1_readProduction_13, dX1_readProduction_14, rfl⟩ rfl ?_
    refine t_callVI C 19 [vI 6] [] dX1_readProduction_16 rfl (ok_X1_bad hG hw) q2479 q2481 qs77 q159 q2482 hd_X1_bad ⟨rfl, rfl, rfl⟩ (fun r60 T59 hw => ?_)
    exact t_zret C dX1_readProduction_19 (bz_n hw.1) ⟨_, rfl, hw.2⟩
def wp_X1_isPosition (p0 : Nat) (p1 : Int32) (p2 : Int32) (T : TS) (Q : Int32 → TS → Prop) : Prop :=
  tix p0 40 (32 + p1) ∧
  wp_X1_isFrom p2 0 (T.a p0 (ni (32 + p1))) T fun r2 T1 =>
  bz r2 ∧ Q r2 T1
theorem hd_X1_isPosition : yX1_isPosition.cls ≠ "java/lang/invoke/MethodHandle" ∧ yX1_isPosition.cls ≠ "java/lang/invoke/VarHandle" ∧ (parseMethodDescriptor yX1_isPosition.desc).map (fun d => d.parameters.length) = some 3 := by decide +kernel
theorem ok_X1_isPosition {l : Launch} {D : va_G} {s0 : S0} (hG : G0 D s0) {o : Nat} {p0 : Nat} {p1 : Int32} {p2 : Int32} {T : TS} {Q : Int32 → TS → Prop} (hw : wp_X1_isPosition p0 p1 p2 T Q) : OKt l D s0 o yX1_isPosition cX1_isPosition 3 (some .boolean) 1 22 [vA (some (o + 1 + p0)), vI p1, vI p2] T (TI Q) := by
  refine t_met hG rfl rfl (L0 := [(0, vA (some (o + 1 + p0))), (1, vI p1), (2, vI p2)]) rfl rfl ?_
  intro h K C
  unfold wp_X1_isPosition at hw
  refine t_b C (pc' := 7) (L' := [(0, vA (some (o + 1 + p0))), (1, vI p1), (2, vI p2)]) (st' := [vI (32 + p1), vA (some (o + 1 + p0)), vI 0, vI p2]) [(.iload_n 2, 1), (.iconst 0, 1), (.aload_n 0, 1), (.bipush 32, 2), (.iload_n 1, 1), (.iadd, 1)] ⟨dX1_isPosition_0, dX1_isPosition_1, dX1_isPosition_2, dX1_isPosition_3, dX1_isPosition_5, dX1_isPosition_6, rfl⟩ rfl ?_
  refine t_iald C 8 dX1_isPosition_7 rfl hw.1 ?_
  replace hw := hw.2
  refine t_callSI C 11 [vI p2, vI 0, vI (T.a p0 (ni (32 + p1)))] [] dX1_isPosition_8 rfl (ok_X1_isFrom hG hw) q2431 q2432 q159 q2433 hd_X1_isFrom ⟨rfl, rfl, rfl⟩ (fun r2 T1 hw => ?_)
  exact t_zret C dX1_isPosition_11 (bz_n hw.1) ⟨_, rfl, hw.2⟩
def wp_X1_readOccName (p0 : Int32) (p1 : Int32) (T : TS) (Q : Int32 → TS → Prop) : Prop :=
  wp_X1_eats 46 T fun r2 T1 =>
  ((r2 = 0 →
  Q 0 T1) ∧ (¬ r2 = 0 →
  wp_X1_isName  T1 fun r5 T4 =>
  ((r5 = 0 →
  wp_X1_bad 2 T4 fun r18 T17 =>
  bz r18 ∧ Q r18 T17) ∧ (¬ r5 = 0 →
  wp_X1_symbolAt 2 p0 p1 T4 fun r8 T7 =>
  wp_X1_attributesIn 2 r8 T7 fun r10 T9 =>
  wp_X1_findIn 4 (20 + (8 * r8)) r10 (T9.w 218) T9 fun r12 T11 =>
  ((r12 = (-1) →
  wp_X1_bad 3 T11 fun r16 T15 =>
  bz r16 ∧ Q r16 T15) ∧ (¬ r12 = (-1) →
  ∀ T14, T14 = T11.ss 219 ((8 * p1) + r12) →
  Q 1 T14))))))
theorem hd_X1_readOccName : yX1_readOccName.cls = RX1 ∧ yX1_readOccName.cls ≠ "java/lang/invoke/MethodHandle" ∧ yX1_readOccName.cls ≠ "java/lang/invoke/VarHandle" ∧ (parseMethodDescriptor yX1_readOccName.desc).map (fun d => d.parameters.length) = some 2 := by decide +kernel
theorem ok_X1_readOccName {l : Launch} {D : va_G} {s0 : S0} (hG : G0 D s0) {o : Nat} {p0 : Int32} {p1 : Int32} {T : TS} {Q : Int32 → TS → Prop} (hw : wp_X1_readOccName p0 p1 T Q) : OKt l D s0 o yX1_readOccName cX1_readOccName 5 (some .boolean) 3 68 [vA (some o), vI p0, vI p1] T (TI Q) := by
  refine t_met hG rfl rfl (L0 := [(0, vA (some o)), (1, vI p0), (2, vI p1)]) rfl rfl ?_
  intro h K C
  unfold wp_X1_readOccName at hw
  refine t_b C (pc' := 3) (L' := [(0, vA (some o)), (1, vI p0), (2, vI p1)]) (st' := [vI 46, vA (some o)]) [(.aload_n 0, 1), (.bipush 46, 2)] ⟨dX1_readOccName_0, dX1_readOccName_1, rfl⟩ rfl ?_
  refine t_callVI C 6 [vI 46] [] dX1_readOccName_3 rfl (ok_X1_eats hG hw) q2497 q2499 qs80 q159 q2500 hd_X1_eats ⟨rfl, rfl, rfl⟩ (fun r2 T1 hw => ?_)
  refine t_if_ne C 11 9 dX1_readOccName_6 rfl rfl (fun hc3 => ?_) (fun hc3 => ?_)
  · replace hw := hw.2 hc3
    refine t_b C (pc' := 12) (L' := [(0, vA (some o)), (1, vI p0), (2, vI p1)]) (st' := [vA (some o)]) [(.aload_n 0, 1)] ⟨dX1_readOccName_11, rfl⟩ rfl ?_
    refine t_callVI C 15 [] [] dX1_readOccName_12 rfl (ok_X1_isName hG hw) q2483 q2485 qs78 q159 q2486 hd_X1_isName ⟨rfl, rfl, rfl⟩ (fun r5 T4 hw => ?_)
    refine t_if_ne C 24 18 dX1_readOccName_15 rfl rfl (fun hc6 => ?_) (fun hc6 => ?_)
    · replace hw := hw.2 hc6
      refine t_b C (pc' := 25) (L' := [(0, vA (some o)), (1, vI p0), (2, vI p1)]) (st' := [vA (some o)]) [(.aload_n 0, 1)] ⟨dX1_readOccName_24, rfl⟩ rfl ?_
      refine t_gA C 202 2 28 dX1_readOccName_25 rfl rfl rfl rfl rfl q2190 (fun _ _ _ => rfl) ?_
      refine t_b C (pc' := 30) (L' := [(0, vA (some o)), (1, vI p0), (2, vI p1)]) (st' := [vI p1, vI p0, vA (some (o + 1 + 2))]) [(.iload_n 1, 1), (.iload_n 2, 1)] ⟨dX1_readOccName_28, dX1_readOccName_29, rfl⟩ rfl ?_
      refine t_callSI C 33 [vA (some (o + 1 + 2)), vI p0, vI p1] [] dX1_readOccName_30 rfl (ok_X1_symbolAt hG hw) q2520 q2521 q159 q2522 hd_X1_symbolAt ⟨rfl, rfl, rfl⟩ (fun r8 T7 hw => ?_)
      refine t_b C (pc' := 35) (L' := [(3, vI r8), (0, vA (some o)), (1, vI p0), (2, vI p1)]) (st' := [vA (some o)]) [(.istore_n 3, 1), (.aload_n 0, 1)] ⟨dX1_readOccName_33, dX1_readOccName_34, rfl⟩ rfl ?_
      refine t_gA C 204 4 38 dX1_readOccName_35 rfl rfl rfl rfl rfl q2192 (fun _ _ _ => rfl) ?_
      refine t_b C (pc' := 46) (L' := [(3, vI r8), (0, vA (some o)), (1, vI p0), (2, vI p1)]) (st' := [vA (some o), vI (20 + (8 * r8)), vA (some (o + 1 + 4))]) [(.bipush 20, 2), (.bipush 8, 2), (.iload_n 3, 1), (.imul, 1), (.iadd, 1), (.aload_n 0, 1)] ⟨dX1_readOccName_38, dX1_readOccName_40, dX1_readOccName_42, dX1_readOccName_43, dX1_readOccName_44, dX1_readOccName_45, rfl⟩ rfl ?_
      refine t_gA C 202 2 49 dX1_readOccName_46 rfl rfl rfl rfl rfl q2190 (fun _ _ _ => rfl) ?_
      refine t_b C (pc' := 50) (L' := [(3, vI r8), (0, vA (some o)), (1, vI p0), (2, vI p1)]) (st' := [vI r8, vA (some (o + 1 + 2)), vI (20 + (8 * r8)), vA (some (o + 1 + 4))]) [(.iload_n 3, 1)] ⟨dX1_readOccName_49, rfl⟩ rfl ?_
      refine t_callSI C 53 [vA (some (o + 1 + 2)), vI r8] [vI (20 + (8 * r8)), vA (some (o + 1 + 4))] dX1_readOccName_50 rfl (ok_X1_attributesIn hG hw) q2494 q2495 q159 q2496 hd_X1_attributesIn ⟨rfl, rfl, rfl⟩ (fun r10 T9 hw => ?_)
      refine t_b C (pc' := 54) (L' := [(3, vI r8), (0, vA (some o)), (1, vI p0), (2, vI p1)]) (st' := [vA (some o), vI r10, vI (20 + (8 * r8)), vA (some (o + 1 + 4))]) [(.aload_n 0, 1)] ⟨dX1_readOccName_53, rfl⟩ rfl ?_
      refine t_gJ C 218 57 dX1_readOccName_54 rfl rfl rfl q2206 (fun _ _ _ => rfl) ?_
      refine t_callSI C 60 [vA (some (o + 1 + 4)), vI (20 + (8 * r8)), vI r10, vJ (T9.w 218)] [] dX1_readOccName_57 rfl (ok_X1_findIn hG hw) q2487 q2488 q159 q2489 hd_X1_findIn ⟨rfl, rfl, rfl⟩ (fun r12 T11 hw => ?_)
      refine t_b C (pc' := 65) (L' := [(4, vI r12), (3, vI r8), (0, vA (some o)), (1, vI p0), (2, vI p1)]) (st' := [vI (-1), vI r12]) [(.istore 4, 2), (.iload 4, 2), (.iconst (-1), 1)] ⟨dX1_readOccName_60, dX1_readOccName_62, dX1_readOccName_64, rfl⟩ rfl ?_
      refine t_icmp_ne C 74 68 dX1_readOccName_65 rfl rfl (fun hc13 => ?_) (fun hc13 => ?_)
      · replace hw := hw.2 hc13
        refine t_b C (pc' := 82) (L' := [(4, vI r12), (3, vI r8), (0, vA (some o)), (1, vI p0), (2, vI p1)]) (st' := [vI ((8 * p1) + r12), vA (some o)]) [(.aload_n 0, 1), (.bipush 8, 2), (.iload_n 2, 1), (.imul, 1), (.iload 4, 2), (.iadd, 1)] ⟨dX1_readOccName_74, dX1_readOccName_75, dX1_readOccName_77, dX1_readOccName_78, dX1_readOccName_79, dX1_readOccName_81, rfl⟩ rfl ?_
        refine t_pI C 219 85 dX1_readOccName_82 rfl rfl rfl rfl q2207 (fun _ _ _ => rfl) rfl rfl (fun T14 eT14 => ?_)
        replace hw := hw T14 eT14
        refine t_b C (pc' := 86) (L' := [(4, vI r12), (3, vI r8), (0, vA (some o)), (1, vI p0), (2, vI p1)]) (st' := [vI 1]) [(.iconst 1, 1)] ⟨dX1_readOccName_85, rfl⟩ rfl ?_
        exact t_zret C dX1_readOccName_86 rfl ⟨_, rfl, hw⟩
      · replace hw := hw.1 hc13
        refine t_b C (pc' := 70) (L' := [(4, vI r12), (3, vI r8), (0, vA (some o)), (1, vI p0), (2, vI p1)]) (st' := [vI 3, vA (some o)]) [(.aload_n 0, 1), (.iconst 3, 1)] ⟨dX1_readOccName_68, dX1_readOccName_69, rfl⟩ rfl ?_
        refine t_callVI C 73 [vI 3] [] dX1_readOccName_70 rfl (ok_X1_bad hG hw) q2479 q2481 qs77 q159 q2482 hd_X1_bad ⟨rfl, rfl, rfl⟩ (fun r16 T15 hw => ?_)
        exact t_zret C dX1_readOccName_73 (bz_n hw.1) ⟨_, rfl, hw.2⟩
    · replace hw := hw.1 hc6
      refine t_b C (pc' := 20) (L' := [(0, vA (some o)), (1, vI p0), (2, vI p1)]) (st' := [vI 2, vA (some o)]) [(.aload_n 0, 1), (.iconst 2, 1)] ⟨dX1_readOccName_18, dX1_readOccName_19, rfl⟩ rfl ?_
      refine t_callVI C 23 [vI 2] [] dX1_readOccName_20 rfl (ok_X1_bad hG hw) q2479 q2481 qs77 q159 q2482 hd_X1_bad ⟨rfl, rfl, rfl⟩ (fun r18 T17 hw => ?_)
      exact t_zret C dX1_readOccName_23 (bz_n hw.1) ⟨_, rfl, hw.2⟩
  · replace hw := hw.1 hc3
    refine t_b C (pc' := 10) (L' := [(0, vA (some o)), (1, vI p0), (2, vI p1)]) (st' := [vI 0]) [(.iconst 0, 1)] ⟨dX1_readOccName_9, rfl⟩ rfl ?_
    exact t_zret C dX1_readOccName_10 rfl ⟨_, rfl, hw⟩
def wp_X1_joint  (T : TS) (Q : Int32 → TS → Prop) : Prop :=
  wp_X1_isWord 6 T fun r2 T1 =>
  ((r2 = 0 →
  wp_X1_isWord 7 T1 fun r5 T4 =>
  ((r5 = 0 →
  wp_X1_isSign 43 T4 fun r8 T7 =>
  ((r8 = 0 →
  wp_X1_isSign 45 T7 fun r11 T10 =>
  ((r11 = 0 →
  wp_X1_isSign 42 T10 fun r14 T13 =>
  ((r14 = 0 →
  wp_X1_isSign 124 T13 fun r17 T16 =>
  ((r17 = 0 →
  wp_X1_isSign 38 T16 fun r20 T19 =>
  ((r20 = 0 →
  wp_X1_isSign 60 T19 fun r23 T22 =>
  ∀ m24 : Int32, m24 = (if r23 = 0 then (-1) else (T22.s 215)) →
  Q m24 T22) ∧ (¬ r20 = 0 →
  Q (T19.s 215) T19))) ∧ (¬ r17 = 0 →
  Q (T16.s 215) T16))) ∧ (¬ r14 = 0 →
  Q (T13.s 215) T13))) ∧ (¬ r11 = 0 →
  Q (T10.s 215) T10))) ∧ (¬ r8 = 0 →
  Q (T7.s 215) T7))) ∧ (¬ r5 = 0 →
  Q 5 T4))) ∧ (¬ r2 = 0 →
  Q 4 T1))
theorem hd_X1_joint : yX1_joint.cls = RX1 ∧ yX1_joint.cls ≠ "java/lang/invoke/MethodHandle" ∧ yX1_joint.cls ≠ "java/lang/invoke/VarHandle" ∧ (parseMethodDescriptor yX1_joint.desc).map (fun d => d.parameters.length) = some 0 := by decide +kernel
theorem ok_X1_joint {l : Launch} {D : va_G} {s0 : S0} (hG : G0 D s0) {o : Nat}  {T : TS} {Q : Int32 → TS → Prop} (hw : wp_X1_joint  T Q) : OKt l D s0 o yX1_joint cX1_joint 1 (some .int) 3 68 [vA (some o)] T (TI Q) := by
  refine t_met hG rfl rfl (L0 := [(0, vA (some o))]) rfl rfl ?_
  intro h K C
  unfold wp_X1_joint at hw
  refine t_b C (pc' := 3) (L' := [(0, vA (some o))]) (st' := [vI 6, vA (some o)]) [(.aload_n 0, 1), (.bipush 6, 2)] ⟨dX1_joint_0, dX1_joint_1, rfl⟩ rfl ?_
  refine t_callVI C 6 [vI 6] [] dX1_joint_3 rfl (ok_X1_isWord hG hw) q2465 q2467 qs75 q159 q2468 hd_X1_isWord ⟨rfl, rfl, rfl⟩ (fun r2 T1 hw => ?_)
  refine t_if_eq C 11 9 dX1_joint_6 rfl rfl (fun hc3 => ?_) (fun hc3 => ?_)
  · replace hw := hw.1 hc3
    refine t_b C (pc' := 14) (L' := [(0, vA (some o))]) (st' := [vI 7, vA (some o)]) [(.aload_n 0, 1), (.bipush 7, 2)] ⟨dX1_joint_11, dX1_joint_12, rfl⟩ rfl ?_
    refine t_callVI C 17 [vI 7] [] dX1_joint_14 rfl (ok_X1_isWord hG hw) q2465 q2467 qs75 q159 q2468 hd_X1_isWord ⟨rfl, rfl, rfl⟩ (fun r5 T4 hw => ?_)
    refine t_if_eq C 22 20 dX1_joint_17 rfl rfl (fun hc6 => ?_) (fun hc6 => ?_)
    · replace hw := hw.1 hc6
      refine t_b C (pc' := 25) (L' := [(0, vA (some o))]) (st' := [vI 43, vA (some o)]) [(.aload_n 0, 1), (.bipush 43, 2)] ⟨dX1_joint_22, dX1_joint_23, rfl⟩ rfl ?_
      refine t_callVI C 28 [vI 43] [] dX1_joint_25 rfl (ok_X1_isSign hG hw) q2501 q2503 qs81 q159 q2504 hd_X1_isSign ⟨rfl, rfl, rfl⟩ (fun r8 T7 hw => ?_)
      refine t_if_ne C 76 31 dX1_joint_28 rfl rfl (fun hc9 => ?_) (fun hc9 => ?_)
      · replace hw := hw.2 hc9
        refine t_b C (pc' := 77) (L' := [(0, vA (some o))]) (st' := [vA (some o)]) [(.aload_n 0, 1)] ⟨dX1_joint_76, rfl⟩ rfl ?_
        refine t_gI C 215 80 dX1_joint_77 rfl rfl rfl q2203 (fun _ _ _ => rfl) ?_
        refine t_goto C 84 dX1_joint_80 rfl ?_
        exact t_iret C dX1_joint_84 ⟨_, rfl, hw⟩
      · replace hw := hw.1 hc9
        refine t_b C (pc' := 34) (L' := [(0, vA (some o))]) (st' := [vI 45, vA (some o)]) [(.aload_n 0, 1), (.bipush 45, 2)] ⟨dX1_joint_31, dX1_joint_32, rfl⟩ rfl ?_
        refine t_callVI C 37 [vI 45] [] dX1_joint_34 rfl (ok_X1_isSign hG hw) q2501 q2503 qs81 q159 q2504 hd_X1_isSign ⟨rfl, rfl, rfl⟩ (fun r11 T10 hw => ?_)
        refine t_if_ne C 76 40 dX1_joint_37 rfl rfl (fun hc12 => ?_) (fun hc12 => ?_)
        · replace hw := hw.2 hc12
          refine t_b C (pc' := 77) (L' := [(0, vA (some o))]) (st' := [vA (some o)]) [(.aload_n 0, 1)] ⟨dX1_joint_76, rfl⟩ rfl ?_
          refine t_gI C 215 80 dX1_joint_77 rfl rfl rfl q2203 (fun _ _ _ => rfl) ?_
          refine t_goto C 84 dX1_joint_80 rfl ?_
          exact t_iret C dX1_joint_84 ⟨_, rfl, hw⟩
        · replace hw := hw.1 hc12
          refine t_b C (pc' := 43) (L' := [(0, vA (some o))]) (st' := [vI 42, vA (some o)]) [(.aload_n 0, 1), (.bipush 42, 2)] ⟨dX1_joint_40, dX1_joint_41, rfl⟩ rfl ?_
          refine t_callVI C 46 [vI 42] [] dX1_joint_43 rfl (ok_X1_isSign hG hw) q2501 q2503 qs81 q159 q2504 hd_X1_isSign ⟨rfl, rfl, rfl⟩ (fun r14 T13 hw => ?_)
          refine t_if_ne C 76 49 dX1_joint_46 rfl rfl (fun hc15 => ?_) (fun hc15 => ?_)
          · replace hw := hw.2 hc15
            refine t_b C (pc' := 77) (L' := [(0, vA (some o))]) (st' := [vA (some o)]) [(.aload_n 0, 1)] ⟨dX1_joint_76, rfl⟩ rfl ?_
            refine t_gI C 215 80 dX1_joint_77 rfl rfl rfl q2203 (fun _ _ _ => rfl) ?_
            refine t_goto C 84 dX1_joint_80 rfl ?_
            exact t_iret C dX1_joint_84 ⟨_, rfl, hw⟩
          · replace hw := hw.1 hc15
            refine t_b C (pc' := 52) (L' := [(0, vA (some o))]) (st' := [vI 124, vA (some o)]) [(.aload_n 0, 1), (.bipush 124, 2)] ⟨dX1_joint_49, dX1_joint_50, rfl⟩ rfl ?_
            refine t_callVI C 55 [vI 124] [] dX1_joint_52 rfl (ok_X1_isSign hG hw) q2501 q2503 qs81 q159 q2504 hd_X1_isSign ⟨rfl, rfl, rfl⟩ (fun r17 T16 hw => ?_)
            refine t_if_ne C 76 58 dX1_joint_55 rfl rfl (fun hc18 => ?_) (fun hc18 => ?_)
            · replace hw := hw.2 hc18
              refine t_b C (pc' := 77) (L' := [(0, vA (some o))]) (st' := [vA (some o)]) [(.aload_n 0, 1)] ⟨dX1_joint_76, rfl⟩ rfl ?_
              refine t_gI C 215 80 dX1_joint_77 rfl rfl rfl q2203 (fun _ _ _ => rfl) ?_
              refine t_goto C 84 dX1_joint_80 rfl ?_
              exact t_iret C dX1_joint_84 ⟨_, rfl, hw⟩
            · replace hw := hw.1 hc18
              refine t_b C (pc' := 61) (L' := [(0, vA (some o))]) (st' := [vI 38, vA (some o)]) [(.aload_n 0, 1), (.bipush 38, 2)] ⟨dX1_joint_58, dX1_joint_59, rfl⟩ rfl ?_
              refine t_callVI C 64 [vI 38] [] dX1_joint_61 rfl (ok_X1_isSign hG hw) q2501 q2503 qs81 q159 q2504 hd_X1_isSign ⟨rfl, rfl, rfl⟩ (fun r20 T19 hw => ?_)
              refine t_if_ne C 76 67 dX1_joint_64 rfl rfl (fun hc21 => ?_) (fun hc21 => ?_)
              · replace hw := hw.2 hc21
                refine t_b C (pc' := 77) (L' := [(0, vA (some o))]) (st' := [vA (some o)]) [(.aload_n 0, 1)] ⟨dX1_joint_76, rfl⟩ rfl ?_
                refine t_gI C 215 80 dX1_joint_77 rfl rfl rfl q2203 (fun _ _ _ => rfl) ?_
                refine t_goto C 84 dX1_joint_80 rfl ?_
                exact t_iret C dX1_joint_84 ⟨_, rfl, hw⟩
              · replace hw := hw.1 hc21
                refine t_b C (pc' := 70) (L' := [(0, vA (some o))]) (st' := [vI 60, vA (some o)]) [(.aload_n 0, 1), (.bipush 60, 2)] ⟨dX1_joint_67, dX1_joint_68, rfl⟩ rfl ?_
                refine t_callVI C 73 [vI 60] [] dX1_joint_70 rfl (ok_X1_isSign hG hw) q2501 q2503 qs81 q159 q2504 hd_X1_isSign ⟨rfl, rfl, rfl⟩ (fun r23 T22 hw => ?_)
                have kj25 : ∀ (m24 : Int32), m24 = (if r23 = 0 then (-1) else (T22.s 215)) → K 84 [] [vI m24] T22 := by
                  intro m24 em24
                  replace hw := hw m24 em24
                  exact t_iret C dX1_joint_84 ⟨_, rfl, hw⟩
                refine t_if_eq C 83 76 dX1_joint_73 rfl rfl (fun hc26 => ?_) (fun hc26 => ?_)
                · refine t_b C (pc' := 84) (L' := [(0, vA (some o))]) (st' := [vI (-1)]) [(.iconst (-1), 1)] ⟨dX1_joint_83, rfl⟩ rfl ?_
                  refine t_sub C (L' := []) [] rfl ?_
                  exact kj25 _ ((if_pos hc26).symm)
                · refine t_b C (pc' := 77) (L' := [(0, vA (some o))]) (st' := [vA (some o)]) [(.aload_n 0, 1)] ⟨dX1_joint_76, rfl⟩ rfl ?_
                  refine t_gI C 215 80 dX1_joint_77 rfl rfl rfl q2203 (fun _ _ _ => rfl) ?_
                  refine t_goto C 84 dX1_joint_80 rfl ?_
                  refine t_sub C (L' := []) [] rfl ?_
                  exact kj25 _ ((if_neg hc26).symm)
    · replace hw := hw.2 hc6
      refine t_b C (pc' := 21) (L' := [(0, vA (some o))]) (st' := [vI 5]) [(.iconst 5, 1)] ⟨dX1_joint_20, rfl⟩ rfl ?_
      exact t_iret C dX1_joint_21 ⟨_, rfl, hw⟩
  · replace hw := hw.2 hc3
    refine t_b C (pc' := 10) (L' := [(0, vA (some o))]) (st' := [vI 4]) [(.iconst 4, 1)] ⟨dX1_joint_9, rfl⟩ rfl ?_
    exact t_iret C dX1_joint_10 ⟨_, rfl, hw⟩
def wp_X1_opens (p0 : Int32) (T : TS) (Q : Int32 → TS → Prop) : Prop :=
  wp_X1_isSign 40 T fun r2 T1 =>
  ((r2 = 0 →
  wp_X1_bad 2 T1 fun r10 T9 =>
  bz r10 ∧ Q r10 T9) ∧ (¬ r2 = 0 →
  ((p0 = 6 →
  wp_X1_bad 6 T1 fun r8 T7 =>
  bz r8 ∧ Q r8 T7) ∧ (¬ p0 = 6 →
  wp_X1_go  T1 fun T5 =>
  Q 1 T5))))
theorem hd_X1_opens : yX1_opens.cls = RX1 ∧ yX1_opens.cls ≠ "java/lang/invoke/MethodHandle" ∧ yX1_opens.cls ≠ "java/lang/invoke/VarHandle" ∧ (parseMethodDescriptor yX1_opens.desc).map (fun d => d.parameters.length) = some 1 := by decide +kernel
theorem ok_X1_opens {l : Launch} {D : va_G} {s0 : S0} (hG : G0 D s0) {o : Nat} {p0 : Int32} {T : TS} {Q : Int32 → TS → Prop} (hw : wp_X1_opens p0 T Q) : OKt l D s0 o yX1_opens cX1_opens 2 (some .boolean) 2 42 [vA (some o), vI p0] T (TI Q) := by
  refine t_met hG rfl rfl (L0 := [(0, vA (some o)), (1, vI p0)]) rfl rfl ?_
  intro h K C
  unfold wp_X1_opens at hw
  refine t_b C (pc' := 3) (L' := [(0, vA (some o)), (1, vI p0)]) (st' := [vI 40, vA (some o)]) [(.aload_n 0, 1), (.bipush 40, 2)] ⟨dX1_opens_0, dX1_opens_1, rfl⟩ rfl ?_
  refine t_callVI C 6 [vI 40] [] dX1_opens_3 rfl (ok_X1_isSign hG hw) q2501 q2503 qs81 q159 q2504 hd_X1_isSign ⟨rfl, rfl, rfl⟩ (fun r2 T1 hw => ?_)
  refine t_if_ne C 15 9 dX1_opens_6 rfl rfl (fun hc3 => ?_) (fun hc3 => ?_)
  · replace hw := hw.2 hc3
    refine t_b C (pc' := 18) (L' := [(0, vA (some o)), (1, vI p0)]) (st' := [vI 6, vI p0]) [(.iload_n 1, 1), (.bipush 6, 2)] ⟨dX1_opens_15, dX1_opens_16, rfl⟩ rfl ?_
    refine t_icmp_ne C 28 21 dX1_opens_18 rfl rfl (fun hc4 => ?_) (fun hc4 => ?_)
    · replace hw := hw.2 hc4
      refine t_b C (pc' := 29) (L' := [(0, vA (some o)), (1, vI p0)]) (st' := [vA (some o)]) [(.aload_n 0, 1)] ⟨dX1_opens_28, rfl⟩ rfl ?_
      refine t_callVV C 32 [] [] dX1_opens_29 rfl (ok_X1_go hG hw) q2442 q2444 qs72 q159 q2445 hd_X1_go ⟨rfl, rfl, rfl⟩ (fun T5 hw => ?_)
      refine t_b C (pc' := 33) (L' := [(0, vA (some o)), (1, vI p0)]) (st' := [vI 1]) [(.iconst 1, 1)] ⟨dX1_opens_32, rfl⟩ rfl ?_
      exact t_zret C dX1_opens_33 rfl ⟨_, rfl, hw⟩
    · replace hw := hw.1 hc4
      refine t_b C (pc' := 24) (L' := [(0, vA (some o)), (1, vI p0)]) (st' := [vI 6, vA (some o)]) [(.aload_n 0, 1), (.bipush 6, 2)] ⟨dX1_opens_21, dX1_opens_22, rfl⟩ rfl ?_
      refine t_callVI C 27 [vI 6] [] dX1_opens_24 rfl (ok_X1_bad hG hw) q2479 q2481 qs77 q159 q2482 hd_X1_bad ⟨rfl, rfl, rfl⟩ (fun r8 T7 hw => ?_)
      exact t_zret C dX1_opens_27 (bz_n hw.1) ⟨_, rfl, hw.2⟩
  · replace hw := hw.1 hc3
    refine t_b C (pc' := 11) (L' := [(0, vA (some o)), (1, vI p0)]) (st' := [vI 2, vA (some o)]) [(.aload_n 0, 1), (.iconst 2, 1)] ⟨dX1_opens_9, dX1_opens_10, rfl⟩ rfl ?_
    refine t_callVI C 14 [vI 2] [] dX1_opens_11 rfl (ok_X1_bad hG hw) q2479 q2481 qs77 q159 q2482 hd_X1_bad ⟨rfl, rfl, rfl⟩ (fun r10 T9 hw => ?_)
    exact t_zret C dX1_opens_14 (bz_n hw.1) ⟨_, rfl, hw.2⟩
def wp_X1_readNumber (p0 : Int32) (T : TS) (Q : Int32 → TS → Prop) : Prop :=
  wp_X1_go  T fun T1 =>
  wp_X1_isSign 46 T1 fun r4 T3 =>
  ((r4 = 0 →
  (((T3.s 220) = 24 →
  wp_X1_badAt 6 (T.s 211) T3 fun r28 T27 =>
  bz r28 ∧ Q r28 T27) ∧ (¬ (T3.s 220) = 24 →
  ∀ T24, T24 = T3.ss 220 ((T3.s 220) + 1) →
  wp_X1_codes 0 (T.s 214) T24 fun T25 =>
  Q 1 T25))) ∧ (¬ r4 = 0 →
  wp_X1_isPosition 2 p0 (T.s 214) T3 fun r7 T6 =>
  ((r7 = 0 →
  wp_X1_badAt 3 (T.s 211) T6 fun r22 T21 =>
  bz r22 ∧ Q r22 T21) ∧ (¬ r7 = 0 →
  (((T6.s 220) = 24 →
  wp_X1_badAt 6 (T.s 211) T6 fun r20 T19 =>
  bz r20 ∧ Q r20 T19) ∧ (¬ (T6.s 220) = 24 →
  wp_X1_readOccName p0 (T.s 214) T6 fun r11 T10 =>
  ((r11 = 0 →
  Q 0 T10) ∧ (¬ r11 = 0 →
  ∀ T13, T13 = T10.ss 220 ((T10.s 220) + 1) →
  ∀ T14, T14 = T13.ss 221 ((T13.s 221) ||| (jshl 1 (T13.s 219))) →
  wp_X1_codes 2 (T14.s 219) T14 fun T15 =>
  wp_X1_go  T15 fun T17 =>
  Q 1 T17))))))))
theorem hd_X1_readNumber : yX1_readNumber.cls = RX1 ∧ yX1_readNumber.cls ≠ "java/lang/invoke/MethodHandle" ∧ yX1_readNumber.cls ≠ "java/lang/invoke/VarHandle" ∧ (parseMethodDescriptor yX1_readNumber.desc).map (fun d => d.parameters.length) = some 1 := by decide +kernel
theorem ok_X1_readNumber {l : Launch} {D : va_G} {s0 : S0} (hG : G0 D s0) {o : Nat} {p0 : Int32} {T : TS} {Q : Int32 → TS → Prop} (hw : wp_X1_readNumber p0 T Q) : OKt l D s0 o yX1_readNumber cX1_readNumber 4 (some .boolean) 4 92 [vA (some o), vI p0] T (TI Q) := by
  refine t_met hG rfl rfl (L0 := [(0, vA (some o)), (1, vI p0)]) rfl rfl ?_
  intro h K C
  unfold wp_X1_readNumber at hw
  refine t_b C (pc' := 1) (L' := [(0, vA (some o)), (1, vI p0)]) (st' := [vA (some o)]) [(.aload_n 0, 1)] ⟨dX1_readNumber_0, rfl⟩ rfl ?_
  refine t_gI C 214 4 dX1_readNumber_1 rfl rfl rfl q2202 (fun _ _ _ => rfl) ?_
  refine t_b C (pc' := 6) (L' := [(2, vI (T.s 214)), (0, vA (some o)), (1, vI p0)]) (st' := [vA (some o)]) [(.istore_n 2, 1), (.aload_n 0, 1)] ⟨dX1_readNumber_4, dX1_readNumber_5, rfl⟩ rfl ?_
  refine t_gI C 211 9 dX1_readNumber_6 rfl rfl rfl q2199 (fun _ _ _ => rfl) ?_
  refine t_b C (pc' := 11) (L' := [(3, vI (T.s 211)), (2, vI (T.s 214)), (0, vA (some o)), (1, vI p0)]) (st' := [vA (some o)]) [(.istore_n 3, 1), (.aload_n 0, 1)] ⟨dX1_readNumber_9, dX1_readNumber_10, rfl⟩ rfl ?_
  refine t_callVV C 14 [] [] dX1_readNumber_11 rfl (ok_X1_go hG hw) q2442 q2444 qs72 q159 q2445 hd_X1_go ⟨rfl, rfl, rfl⟩ (fun T1 hw => ?_)
  refine t_b C (pc' := 17) (L' := [(3, vI (T.s 211)), (2, vI (T.s 214)), (0, vA (some o)), (1, vI p0)]) (st' := [vI 46, vA (some o)]) [(.aload_n 0, 1), (.bipush 46, 2)] ⟨dX1_readNumber_14, dX1_readNumber_15, rfl⟩ rfl ?_
  refine t_callVI C 20 [vI 46] [] dX1_readNumber_17 rfl (ok_X1_isSign hG hw) q2501 q2503 qs81 q159 q2504 hd_X1_isSign ⟨rfl, rfl, rfl⟩ (fun r4 T3 hw => ?_)
  refine t_if_ne C 58 23 dX1_readNumber_20 rfl rfl (fun hc5 => ?_) (fun hc5 => ?_)
  · replace hw := hw.2 hc5
    refine t_b C (pc' := 59) (L' := [(3, vI (T.s 211)), (2, vI (T.s 214)), (0, vA (some o)), (1, vI p0)]) (st' := [vA (some o)]) [(.aload_n 0, 1)] ⟨dX1_readNumber_58, rfl⟩ rfl ?_
    refine t_gA C 202 2 62 dX1_readNumber_59 rfl rfl rfl rfl rfl q2190 (fun _ _ _ => rfl) ?_
    refine t_b C (pc' := 64) (L' := [(3, vI (T.s 211)), (2, vI (T.s 214)), (0, vA (some o)), (1, vI p0)]) (st' := [vI (T.s 214), vI p0, vA (some (o + 1 + 2))]) [(.iload_n 1, 1), (.iload_n 2, 1)] ⟨dX1_readNumber_62, dX1_readNumber_63, rfl⟩ rfl ?_
    refine t_callSI C 67 [vA (some (o + 1 + 2)), vI p0, vI (T.s 214)] [] dX1_readNumber_64 rfl (ok_X1_isPosition hG hw) q2513 q2514 q159 q2515 hd_X1_isPosition ⟨rfl, rfl, rfl⟩ (fun r7 T6 hw => ?_)
    refine t_if_ne C 77 70 dX1_readNumber_67 rfl rfl (fun hc8 => ?_) (fun hc8 => ?_)
    · replace hw := hw.2 hc8
      refine t_b C (pc' := 78) (L' := [(3, vI (T.s 211)), (2, vI (T.s 214)), (0, vA (some o)), (1, vI p0)]) (st' := [vA (some o)]) [(.aload_n 0, 1)] ⟨dX1_readNumber_77, rfl⟩ rfl ?_
      refine t_gI C 220 81 dX1_readNumber_78 rfl rfl rfl q2208 (fun _ _ _ => rfl) ?_
      refine t_b C (pc' := 83) (L' := [(3, vI (T.s 211)), (2, vI (T.s 214)), (0, vA (some o)), (1, vI p0)]) (st' := [vI 24, vI (T6.s 220)]) [(.bipush 24, 2)] ⟨dX1_readNumber_81, rfl⟩ rfl ?_
      refine t_icmp_ne C 94 86 dX1_readNumber_83 rfl rfl (fun hc9 => ?_) (fun hc9 => ?_)
      · replace hw := hw.2 hc9
        refine t_b C (pc' := 97) (L' := [(3, vI (T.s 211)), (2, vI (T.s 214)), (0, vA (some o)), (1, vI p0)]) (st' := [vI (T.s 214), vI p0, vA (some o)]) [(.aload_n 0, 1), (.iload_n 1, 1), (.iload_n 2, 1)] ⟨dX1_readNumber_94, dX1_readNumber_95, dX1_readNumber_96, rfl⟩ rfl ?_
        refine t_callVI C 100 [vI p0, vI (T.s 214)] [] dX1_readNumber_97 rfl (ok_X1_readOccName hG hw) q2516 q2518 qs84 q159 q2519 hd_X1_readOccName ⟨rfl, rfl, rfl⟩ (fun r11 T10 hw => ?_)
        refine t_if_ne C 105 103 dX1_readNumber_100 rfl rfl (fun hc12 => ?_) (fun hc12 => ?_)
        · replace hw := hw.2 hc12
          refine t_b C (pc' := 107) (L' := [(3, vI (T.s 211)), (2, vI (T.s 214)), (0, vA (some o)), (1, vI p0)]) (st' := [vA (some o), vA (some o)]) [(.aload_n 0, 1), (.dup, 1)] ⟨dX1_readNumber_105, dX1_readNumber_106, rfl⟩ rfl ?_
          refine t_gI C 220 110 dX1_readNumber_107 rfl rfl rfl q2208 (fun _ _ _ => rfl) ?_
          refine t_b C (pc' := 112) (L' := [(3, vI (T.s 211)), (2, vI (T.s 214)), (0, vA (some o)), (1, vI p0)]) (st' := [vI ((T10.s 220) + 1), vA (some o)]) [(.iconst 1, 1), (.iadd, 1)] ⟨dX1_readNumber_110, dX1_readNumber_111, rfl⟩ rfl ?_
          refine t_pI C 220 115 dX1_readNumber_112 rfl rfl rfl rfl q2208 (fun _ _ _ => rfl) rfl rfl (fun T13 eT13 => ?_)
          replace hw := hw T13 eT13
          refine t_b C (pc' := 117) (L' := [(3, vI (T.s 211)), (2, vI (T.s 214)), (0, vA (some o)), (1, vI p0)]) (st' := [vA (some o), vA (some o)]) [(.aload_n 0, 1), (.dup, 1)] ⟨dX1_readNumber_115, dX1_readNumber_116, rfl⟩ rfl ?_
          refine t_gI C 221 120 dX1_readNumber_117 rfl rfl rfl q2209 (fun _ _ _ => rfl) ?_
          refine t_b C (pc' := 122) (L' := [(3, vI (T.s 211)), (2, vI (T.s 214)), (0, vA (some o)), (1, vI p0)]) (st' := [vA (some o), vI 1, vI (T13.s 221), vA (some o)]) [(.iconst 1, 1), (.aload_n 0, 1)] ⟨dX1_readNumber_120, dX1_readNumber_121, rfl⟩ rfl ?_
          refine t_gI C 219 125 dX1_readNumber_122 rfl rfl rfl q2207 (fun _ _ _ => rfl) ?_
          refine t_b C (pc' := 127) (L' := [(3, vI (T.s 211)), (2, vI (T.s 214)), (0, vA (some o)), (1, vI p0)]) (st' := [vI ((T13.s 221) ||| (jshl 1 (T13.s 219))), vA (some o)]) [(.ishl, 1), (.ior, 1)] ⟨dX1_readNumber_125, dX1_readNumber_126, rfl⟩ rfl ?_
          refine t_pI C 221 130 dX1_readNumber_127 rfl rfl rfl rfl q2209 (fun _ _ _ => rfl) rfl rfl (fun T14 eT14 => ?_)
          replace hw := hw T14 eT14
          refine t_b C (pc' := 133) (L' := [(3, vI (T.s 211)), (2, vI (T.s 214)), (0, vA (some o)), (1, vI p0)]) (st' := [vA (some o), vI 2, vA (some o)]) [(.aload_n 0, 1), (.iconst 2, 1), (.aload_n 0, 1)] ⟨dX1_readNumber_130, dX1_readNumber_131, dX1_readNumber_132, rfl⟩ rfl ?_
          refine t_gI C 219 136 dX1_readNumber_133 rfl rfl rfl q2207 (fun _ _ _ => rfl) ?_
          refine t_callVV C 139 [vI 2, vI (T14.s 219)] [] dX1_readNumber_136 rfl (ok_X1_codes hG hw) q2542 q2544 qs89 q159 q2545 hd_X1_codes ⟨rfl, rfl, rfl⟩ (fun T15 hw => ?_)
          refine t_b C (pc' := 140) (L' := [(3, vI (T.s 211)), (2, vI (T.s 214)), (0, vA (some o)), (1, vI p0)]) (st' := [vA (some o)]) [(.aload_n 0, 1)] ⟨dX1_readNumber_139, rfl⟩ rfl ?_
          refine t_callVV C 143 [] [] dX1_readNumber_140 rfl (ok_X1_go hG hw) q2442 q2444 qs72 q159 q2445 hd_X1_go ⟨rfl, rfl, rfl⟩ (fun T17 hw => ?_)
          refine t_b C (pc' := 144) (L' := [(3, vI (T.s 211)), (2, vI (T.s 214)), (0, vA (some o)), (1, vI p0)]) (st' := [vI 1]) [(.iconst 1, 1)] ⟨dX1_readNumber_143, rfl⟩ rfl ?_
          exact t_zret C dX1_readNumber_144 rfl ⟨_, rfl, hw⟩
        · replace hw := hw.1 hc12
          refine t_b C (pc' := 104) (L' := [(3, vI (T.s 211)), (2, vI (T.s 214)), (0, vA (some o)), (1, vI p0)]) (st' := [vI 0]) [(.iconst 0, 1)] ⟨dX1_readNumber_103, rfl⟩ rfl ?_
          exact t_zret C dX1_readNumber_104 rfl ⟨_, rfl, hw⟩
      · replace hw := hw.1 hc9
        refine t_b C (pc' := 90) (L' := [(3, vI (T.s 211)), (2, vI (T.s 214)), (0, vA (some o)), (1, vI p0)]) (st' := [vI (T.s 211), vI 6, vA (some o)]) [(.aload_n 0, 1), (.bipush 6, 2), (.iload_n 3, 1)] ⟨dX1_readNumber_86, dX1_readNumber_87, dX1_readNumber_89, rfl⟩ rfl ?_
        refine t_callVI C 93 [vI 6, vI (T.s 211)] [] dX1_readNumber_90 rfl (ok_X1_badAt hG hw) q2538 q2540 qs88 q159 q2541 hd_X1_badAt ⟨rfl, rfl, rfl⟩ (fun r20 T19 hw => ?_)
        exact t_zret C dX1_readNumber_93 (bz_n hw.1) ⟨_, rfl, hw.2⟩
    · replace hw := hw.1 hc8
      refine t_b C (pc' := 73) (L' := [(3, vI (T.s 211)), (2, vI (T.s 214)), (0, vA (some o)), (1, vI p0)]) (st' := [vI (T.s 211), vI 3, vA (some o)]) [(.aload_n 0, 1), (.iconst 3, 1), (.iload_n 3, 1)] ⟨dX1_readNumber_70, dX1_readNumber_71, dX1_readNumber_72, rfl⟩ rfl ?_
      refine t_callVI C 76 [vI 3, vI (T.s 211)] [] dX1_readNumber_73 rfl (ok_X1_badAt hG hw) q2538 q2540 qs88 q159 q2541 hd_X1_badAt ⟨rfl, rfl, rfl⟩ (fun r22 T21 hw => ?_)
      exact t_zret C dX1_readNumber_76 (bz_n hw.1) ⟨_, rfl, hw.2⟩
  · replace hw := hw.1 hc5
    refine t_b C (pc' := 24) (L' := [(3, vI (T.s 211)), (2, vI (T.s 214)), (0, vA (some o)), (1, vI p0)]) (st' := [vA (some o)]) [(.aload_n 0, 1)] ⟨dX1_readNumber_23, rfl⟩ rfl ?_
    refine t_gI C 220 27 dX1_readNumber_24 rfl rfl rfl q2208 (fun _ _ _ => rfl) ?_
    refine t_b C (pc' := 29) (L' := [(3, vI (T.s 211)), (2, vI (T.s 214)), (0, vA (some o)), (1, vI p0)]) (st' := [vI 24, vI (T3.s 220)]) [(.bipush 24, 2)] ⟨dX1_readNumber_27, rfl⟩ rfl ?_
    refine t_icmp_ne C 40 32 dX1_readNumber_29 rfl rfl (fun hc23 => ?_) (fun hc23 => ?_)
    · replace hw := hw.2 hc23
      refine t_b C (pc' := 42) (L' := [(3, vI (T.s 211)), (2, vI (T.s 214)), (0, vA (some o)), (1, vI p0)]) (st' := [vA (some o), vA (some o)]) [(.aload_n 0, 1), (.dup, 1)] ⟨dX1_readNumber_40, dX1_readNumber_41, rfl⟩ rfl ?_
      refine t_gI C 220 45 dX1_readNumber_42 rfl rfl rfl q2208 (fun _ _ _ => rfl) ?_
      refine t_b C (pc' := 47) (L' := [(3, vI (T.s 211)), (2, vI (T.s 214)), (0, vA (some o)), (1, vI p0)]) (st' := [vI ((T3.s 220) + 1), vA (some o)]) [(.iconst 1, 1), (.iadd, 1)] ⟨dX1_readNumber_45, dX1_readNumber_46, rfl⟩ rfl ?_
      refine t_pI C 220 50 dX1_readNumber_47 rfl rfl rfl rfl q2208 (fun _ _ _ => rfl) rfl rfl (fun T24 eT24 => ?_)
      replace hw := hw T24 eT24
      refine t_b C (pc' := 53) (L' := [(3, vI (T.s 211)), (2, vI (T.s 214)), (0, vA (some o)), (1, vI p0)]) (st' := [vI (T.s 214), vI 0, vA (some o)]) [(.aload_n 0, 1), (.iconst 0, 1), (.iload_n 2, 1)] ⟨dX1_readNumber_50, dX1_readNumber_51, dX1_readNumber_52, rfl⟩ rfl ?_
      refine t_callVV C 56 [vI 0, vI (T.s 214)] [] dX1_readNumber_53 rfl (ok_X1_codes hG hw) q2542 q2544 qs89 q159 q2545 hd_X1_codes ⟨rfl, rfl, rfl⟩ (fun T25 hw => ?_)
      refine t_b C (pc' := 57) (L' := [(3, vI (T.s 211)), (2, vI (T.s 214)), (0, vA (some o)), (1, vI p0)]) (st' := [vI 1]) [(.iconst 1, 1)] ⟨dX1_readNumber_56, rfl⟩ rfl ?_
      exact t_zret C dX1_readNumber_57 rfl ⟨_, rfl, hw⟩
    · replace hw := hw.1 hc23
      refine t_b C (pc' := 36) (L' := [(3, vI (T.s 211)), (2, vI (T.s 214)), (0, vA (some o)), (1, vI p0)]) (st' := [vI (T.s 211), vI 6, vA (some o)]) [(.aload_n 0, 1), (.bipush 6, 2), (.iload_n 3, 1)] ⟨dX1_readNumber_32, dX1_readNumber_33, dX1_readNumber_35, rfl⟩ rfl ?_
      refine t_callVI C 39 [vI 6, vI (T.s 211)] [] dX1_readNumber_36 rfl (ok_X1_badAt hG hw) q2538 q2540 qs88 q159 q2541 hd_X1_badAt ⟨rfl, rfl, rfl⟩ (fun r28 T27 hw => ?_)
      exact t_zret C dX1_readNumber_39 (bz_n hw.1) ⟨_, rfl, hw.2⟩
def wp_X1_readPart (rs : Int32 → Int32 → TS → (Int32 → TS → Prop) → Prop) (p0 : Int32) (p1 : Int32) (T : TS) (Q : Int32 → TS → Prop) : Prop :=
  (((T.s 213) = 3 →
  wp_X1_readNumber p0 T fun r56 T55 =>
  bz r56 ∧ Q r56 T55) ∧ (¬ (T.s 213) = 3 →
  wp_X1_isWord 5 T fun r3 T2 =>
  ((r3 = 0 →
  wp_X1_isWord 8 T2 fun r6 T5 =>
  ((r6 = 0 →
  wp_X1_opens p1 T5 fun r9 T8 =>
  ((r9 = 0 →
  Q 0 T8) ∧ (¬ r9 = 0 →
  rs p0 (p1 + 1) T8 fun r12 T11 =>
  ((r12 = 0 →
  Q 0 T11) ∧ (¬ r12 = 0 →
  wp_X1_eats 41 T11 fun r15 T14 =>
  ∀ m16 : Int32, m16 = (if r15 = 0 then 0 else 1) →
  bz m16 ∧ Q m16 T14))))) ∧ (¬ r6 = 0 →
  wp_X1_go  T5 fun T19 =>
  wp_X1_opens p1 T19 fun r22 T21 =>
  ((r22 = 0 →
  Q 0 T21) ∧ (¬ r22 = 0 →
  rs p0 (p1 + 1) T21 fun r25 T24 =>
  ((r25 = 0 →
  Q 0 T24) ∧ (¬ r25 = 0 →
  wp_X1_eats 44 T24 fun r28 T27 =>
  ((r28 = 0 →
  Q 0 T27) ∧ (¬ r28 = 0 →
  rs p0 (p1 + 1) T27 fun r31 T30 =>
  ((r31 = 0 →
  Q 0 T30) ∧ (¬ r31 = 0 →
  wp_X1_eats 44 T30 fun r34 T33 =>
  ((r34 = 0 →
  Q 0 T33) ∧ (¬ r34 = 0 →
  rs p0 (p1 + 1) T33 fun r37 T36 =>
  ((r37 = 0 →
  Q 0 T36) ∧ (¬ r37 = 0 →
  wp_X1_eats 41 T36 fun r40 T39 =>
  ∀ m41 : Int32, m41 = (if r40 = 0 then 0 else 1) →
  ((m41 = 0 →
  bz m41 ∧ Q m41 T39) ∧ (¬ m41 = 0 →
  wp_X1_codes 3 0 T39 fun T44 =>
  bz m41 ∧ Q m41 T44))))))))))))))))) ∧ (¬ r3 = 0 →
  (((T2.s 220) = 24 →
  wp_X1_bad 6 T2 fun r54 T53 =>
  bz r54 ∧ Q r54 T53) ∧ (¬ (T2.s 220) = 24 →
  ∀ T48, T48 = T2.ss 220 ((T2.s 220) + 1) →
  wp_X1_codes 1 0 T48 fun T49 =>
  wp_X1_go  T49 fun T51 =>
  Q 1 T51))))))
theorem hd_X1_readPart : yX1_readPart.cls = RX1 ∧ yX1_readPart.cls ≠ "java/lang/invoke/MethodHandle" ∧ yX1_readPart.cls ≠ "java/lang/invoke/VarHandle" ∧ (parseMethodDescriptor yX1_readPart.desc).map (fun d => d.parameters.length) = some 2 := by decide +kernel
theorem hd_X1_readSum : yX1_readSum.cls = RX1 ∧ yX1_readSum.cls ≠ "java/lang/invoke/MethodHandle" ∧ yX1_readSum.cls ≠ "java/lang/invoke/VarHandle" ∧ (parseMethodDescriptor yX1_readSum.desc).map (fun d => d.parameters.length) = some 2 := by decide +kernel
theorem ok_X1_readPart {l : Launch} {D : va_G} {s0 : S0} (hG : G0 D s0) {o : Nat} {rs : Int32 → Int32 → TS → (Int32 → TS → Prop) → Prop} {fS lS : Nat} (hrs : ∀ {p0 p1 : Int32} {T : TS} {Q : Int32 → TS → Prop}, rs p0 p1 T Q → OKt l D s0 o yX1_readSum cX1_readSum 4 (some .boolean) fS lS [vA (some o), vI p0, vI p1] T (TI Q)) {p0 : Int32} {p1 : Int32} {T : TS} {Q : Int32 → TS → Prop} (hw : wp_X1_readPart rs p0 p1 T Q) : OKt l D s0 o yX1_readPart cX1_readPart 4 (some .boolean) (fS + 5) (lS + 115) [vA (some o), vI p0, vI p1] T (TI Q) := by
  refine t_met hG rfl rfl (L0 := [(0, vA (some o)), (1, vI p0), (2, vI p1)]) rfl rfl ?_
  intro h K C
  unfold wp_X1_readPart at hw
  refine t_b C (pc' := 1) (L' := [(0, vA (some o)), (1, vI p0), (2, vI p1)]) (st' := [vA (some o)]) [(.aload_n 0, 1)] ⟨dX1_readPart_0, rfl⟩ rfl ?_
  refine t_gI C 213 4 dX1_readPart_1 rfl rfl rfl q2201 (fun _ _ _ => rfl) ?_
  refine t_b C (pc' := 5) (L' := [(0, vA (some o)), (1, vI p0), (2, vI p1)]) (st' := [vI 3, vI (T.s 213)]) [(.iconst 3, 1)] ⟨dX1_readPart_4, rfl⟩ rfl ?_
  refine t_icmp_ne C 14 8 dX1_readPart_5 rfl rfl (fun hc1 => ?_) (fun hc1 => ?_)
  · replace hw := hw.2 hc1
    refine t_b C (pc' := 16) (L' := [(0, vA (some o)), (1, vI p0), (2, vI p1)]) (st' := [vI 5, vA (some o)]) [(.aload_n 0, 1), (.iconst 5, 1)] ⟨dX1_readPart_14, dX1_readPart_15, rfl⟩ rfl ?_
    refine t_callVI C 19 [vI 5] [] dX1_readPart_16 rfl (ok_X1_isWord hG hw) q2465 q2467 qs75 q159 q2468 hd_X1_isWord ⟨Nat.ble_eq_true_of_le (by omega), Nat.ble_eq_true_of_le (by omega), rfl⟩ (fun r3 T2 hw => ?_)
    refine t_if_eq C 60 22 dX1_readPart_19 rfl rfl (fun hc4 => ?_) (fun hc4 => ?_)
    · replace hw := hw.1 hc4
      refine t_b C (pc' := 63) (L' := [(0, vA (some o)), (1, vI p0), (2, vI p1)]) (st' := [vI 8, vA (some o)]) [(.aload_n 0, 1), (.bipush 8, 2)] ⟨dX1_readPart_60, dX1_readPart_61, rfl⟩ rfl ?_
      refine t_callVI C 66 [vI 8] [] dX1_readPart_63 rfl (ok_X1_isWord hG hw) q2465 q2467 qs75 q159 q2468 hd_X1_isWord ⟨Nat.ble_eq_true_of_le (by omega), Nat.ble_eq_true_of_le (by omega), rfl⟩ (fun r6 T5 hw => ?_)
      refine t_if_eq C 161 69 dX1_readPart_66 rfl rfl (fun hc7 => ?_) (fun hc7 => ?_)
      · replace hw := hw.1 hc7
        refine t_b C (pc' := 163) (L' := [(0, vA (some o)), (1, vI p0), (2, vI p1)]) (st' := [vI p1, vA (some o)]) [(.aload_n 0, 1), (.iload_n 2, 1)] ⟨dX1_readPart_161, dX1_readPart_162, rfl⟩ rfl ?_
        refine t_callVI C 166 [vI p1] [] dX1_readPart_163 rfl (ok_X1_opens hG hw) q2546 q2548 qs90 q159 q2549 hd_X1_opens ⟨Nat.ble_eq_true_of_le (by omega), Nat.ble_eq_true_of_le (by omega), rfl⟩ (fun r9 T8 hw => ?_)
        refine t_if_eq C 193 169 dX1_readPart_166 rfl rfl (fun hc10 => ?_) (fun hc10 => ?_)
        · replace hw := hw.1 hc10
          refine t_b C (pc' := 194) (L' := [(0, vA (some o)), (1, vI p0), (2, vI p1)]) (st' := [vI 0]) [(.iconst 0, 1)] ⟨dX1_readPart_193, rfl⟩ rfl ?_
          exact t_zret C dX1_readPart_194 rfl ⟨_, rfl, hw⟩
        · replace hw := hw.2 hc10
          refine t_b C (pc' := 174) (L' := [(0, vA (some o)), (1, vI p0), (2, vI p1)]) (st' := [vI (p1 + 1), vI p0, vA (some o)]) [(.aload_n 0, 1), (.iload_n 1, 1), (.iload_n 2, 1), (.iconst 1, 1), (.iadd, 1)] ⟨dX1_readPart_169, dX1_readPart_170, dX1_readPart_171, dX1_readPart_172, dX1_readPart_173, rfl⟩ rfl ?_
          refine t_callVI C 177 [vI p0, vI (p1 + 1)] [] dX1_readPart_174 rfl (hrs hw) q2526 q2528 qs85 q159 q2529 hd_X1_readSum ⟨Nat.ble_eq_true_of_le (by omega), Nat.ble_eq_true_of_le (by omega), rfl⟩ (fun r12 T11 hw => ?_)
          refine t_if_eq C 193 180 dX1_readPart_177 rfl rfl (fun hc13 => ?_) (fun hc13 => ?_)
          · replace hw := hw.1 hc13
            refine t_b C (pc' := 194) (L' := [(0, vA (some o)), (1, vI p0), (2, vI p1)]) (st' := [vI 0]) [(.iconst 0, 1)] ⟨dX1_readPart_193, rfl⟩ rfl ?_
            exact t_zret C dX1_readPart_194 rfl ⟨_, rfl, hw⟩
          · replace hw := hw.2 hc13
            refine t_b C (pc' := 183) (L' := [(0, vA (some o)), (1, vI p0), (2, vI p1)]) (st' := [vI 41, vA (some o)]) [(.aload_n 0, 1), (.bipush 41, 2)] ⟨dX1_readPart_180, dX1_readPart_181, rfl⟩ rfl ?_
            refine t_callVI C 186 [vI 41] [] dX1_readPart_183 rfl (ok_X1_eats hG hw) q2497 q2499 qs80 q159 q2500 hd_X1_eats ⟨Nat.ble_eq_true_of_le (by omega), Nat.ble_eq_true_of_le (by omega), rfl⟩ (fun r15 T14 hw => ?_)
            have kj17 : ∀ (m16 : Int32), m16 = (if r15 = 0 then 0 else 1) → K 194 [] [vI m16] T14 := by
              intro m16 em16
              replace hw := hw m16 em16
              exact t_zret C dX1_readPart_194 (bz_n hw.1) ⟨_, rfl, hw.2⟩
            refine t_if_eq C 193 189 dX1_readPart_186 rfl rfl (fun hc18 => ?_) (fun hc18 => ?_)
            · refine t_b C (pc' := 194) (L' := [(0, vA (some o)), (1, vI p0), (2, vI p1)]) (st' := [vI 0]) [(.iconst 0, 1)] ⟨dX1_readPart_193, rfl⟩ rfl ?_
              refine t_sub C (L' := []) [] rfl ?_
              exact kj17 _ ((if_pos hc18).symm)
            · refine t_b C (pc' := 190) (L' := [(0, vA (some o)), (1, vI p0), (2, vI p1)]) (st' := [vI 1]) [(.iconst 1, 1)] ⟨dX1_readPart_189, rfl⟩ rfl ?_
              refine t_goto C 194 dX1_readPart_190 rfl ?_
              refine t_sub C (L' := []) [] rfl ?_
              exact kj17 _ ((if_neg hc18).symm)
      · replace hw := hw.2 hc7
        refine t_b C (pc' := 70) (L' := [(0, vA (some o)), (1, vI p0), (2, vI p1)]) (st' := [vA (some o)]) [(.aload_n 0, 1)] ⟨dX1_readPart_69, rfl⟩ rfl ?_
        refine t_callVV C 73 [] [] dX1_readPart_70 rfl (ok_X1_go hG hw) q2442 q2444 qs72 q159 q2445 hd_X1_go ⟨Nat.ble_eq_true_of_le (by omega), Nat.ble_eq_true_of_le (by omega), rfl⟩ (fun T19 hw => ?_)
        refine t_b C (pc' := 75) (L' := [(0, vA (some o)), (1, vI p0), (2, vI p1)]) (st' := [vI p1, vA (some o)]) [(.aload_n 0, 1), (.iload_n 2, 1)] ⟨dX1_readPart_73, dX1_readPart_74, rfl⟩ rfl ?_
        refine t_callVI C 78 [vI p1] [] dX1_readPart_75 rfl (ok_X1_opens hG hw) q2546 q2548 qs90 q159 q2549 hd_X1_opens ⟨Nat.ble_eq_true_of_le (by omega), Nat.ble_eq_true_of_le (by omega), rfl⟩ (fun r22 T21 hw => ?_)
        refine t_if_ne C 83 81 dX1_readPart_78 rfl rfl (fun hc23 => ?_) (fun hc23 => ?_)
        · replace hw := hw.2 hc23
          refine t_b C (pc' := 88) (L' := [(0, vA (some o)), (1, vI p0), (2, vI p1)]) (st' := [vI (p1 + 1), vI p0, vA (some o)]) [(.aload_n 0, 1), (.iload_n 1, 1), (.iload_n 2, 1), (.iconst 1, 1), (.iadd, 1)] ⟨dX1_readPart_83, dX1_readPart_84, dX1_readPart_85, dX1_readPart_86, dX1_readPart_87, rfl⟩ rfl ?_
          refine t_callVI C 91 [vI p0, vI (p1 + 1)] [] dX1_readPart_88 rfl (hrs hw) q2526 q2528 qs85 q159 q2529 hd_X1_readSum ⟨Nat.ble_eq_true_of_le (by omega), Nat.ble_eq_true_of_le (by omega), rfl⟩ (fun r25 T24 hw => ?_)
          refine t_if_eq C 147 94 dX1_readPart_91 rfl rfl (fun hc26 => ?_) (fun hc26 => ?_)
          · replace hw := hw.1 hc26
            refine t_b C (pc' := 150) (L' := [(3, vI 0), (0, vA (some o)), (1, vI p0), (2, vI p1)]) (st' := [vI 0]) [(.iconst 0, 1), (.istore_n 3, 1), (.iload_n 3, 1)] ⟨dX1_readPart_147, dX1_readPart_148, dX1_readPart_149, rfl⟩ rfl ?_
            refine t_if_eq C 159 153 dX1_readPart_150 rfl rfl (fun _ => ?_) (fun hc => absurd rfl hc)
            refine t_b C (pc' := 160) (L' := [(3, vI 0), (0, vA (some o)), (1, vI p0), (2, vI p1)]) (st' := [vI 0]) [(.iload_n 3, 1)] ⟨dX1_readPart_159, rfl⟩ rfl ?_
            exact t_zret C dX1_readPart_160 rfl ⟨_, rfl, hw⟩
          · replace hw := hw.2 hc26
            refine t_b C (pc' := 97) (L' := [(0, vA (some o)), (1, vI p0), (2, vI p1)]) (st' := [vI 44, vA (some o)]) [(.aload_n 0, 1), (.bipush 44, 2)] ⟨dX1_readPart_94, dX1_readPart_95, rfl⟩ rfl ?_
            refine t_callVI C 100 [vI 44] [] dX1_readPart_97 rfl (ok_X1_eats hG hw) q2497 q2499 qs80 q159 q2500 hd_X1_eats ⟨Nat.ble_eq_true_of_le (by omega), Nat.ble_eq_true_of_le (by omega), rfl⟩ (fun r28 T27 hw => ?_)
            refine t_if_eq C 147 103 dX1_readPart_100 rfl rfl (fun hc29 => ?_) (fun hc29 => ?_)
            · replace hw := hw.1 hc29
              refine t_b C (pc' := 150) (L' := [(3, vI 0), (0, vA (some o)), (1, vI p0), (2, vI p1)]) (st' := [vI 0]) [(.iconst 0, 1), (.istore_n 3, 1), (.iload_n 3, 1)] ⟨dX1_readPart_147, dX1_readPart_148, dX1_readPart_149, rfl⟩ rfl ?_
              refine t_if_eq C 159 153 dX1_readPart_150 rfl rfl (fun _ => ?_) (fun hc => absurd rfl hc)
              refine t_b C (pc' := 160) (L' := [(3, vI 0), (0, vA (some o)), (1, vI p0), (2, vI p1)]) (st' := [vI 0]) [(.iload_n 3, 1)] ⟨dX1_readPart_159, rfl⟩ rfl ?_
              exact t_zret C dX1_readPart_160 rfl ⟨_, rfl, hw⟩
            · replace hw := hw.2 hc29
              refine t_b C (pc' := 108) (L' := [(0, vA (some o)), (1, vI p0), (2, vI p1)]) (st' := [vI (p1 + 1), vI p0, vA (some o)]) [(.aload_n 0, 1), (.iload_n 1, 1), (.iload_n 2, 1), (.iconst 1, 1), (.iadd, 1)] ⟨dX1_readPart_103, dX1_readPart_104, dX1_readPart_105, dX1_readPart_106, dX1_readPart_107, rfl⟩ rfl ?_
              refine t_callVI C 111 [vI p0, vI (p1 + 1)] [] dX1_readPart_108 rfl (hrs hw) q2526 q2528 qs85 q159 q2529 hd_X1_readSum ⟨Nat.ble_eq_true_of_le (by omega), Nat.ble_eq_true_of_le (by omega), rfl⟩ (fun r31 T30 hw => ?_)
              refine t_if_eq C 147 114 dX1_readPart_111 rfl rfl (fun hc32 => ?_) (fun hc32 => ?_)
              · replace hw := hw.1 hc32
                refine t_b C (pc' := 150) (L' := [(3, vI 0), (0, vA (some o)), (1, vI p0), (2, vI p1)]) (st' := [vI 0]) [(.iconst 0, 1), (.istore_n 3, 1), (.iload_n 3, 1)] ⟨dX1_readPart_147, dX1_readPart_148, dX1_readPart_149, rfl⟩ rfl ?_
                refine t_if_eq C 159 153 dX1_readPart_150 rfl rfl (fun _ => ?_) (fun hc => absurd rfl hc)
                refine t_b C (pc' := 160) (L' := [(3, vI 0), (0, vA (some o)), (1, vI p0), (2, vI p1)]) (st' := [vI 0]) [(.iload_n 3, 1)] ⟨dX1_readPart_159, rfl⟩ rfl ?_
                exact t_zret C dX1_readPart_160 rfl ⟨_, rfl, hw⟩
              · replace hw := hw.2 hc32
                refine t_b C (pc' := 117) (L' := [(0, vA (some o)), (1, vI p0), (2, vI p1)]) (st' := [vI 44, vA (some o)]) [(.aload_n 0, 1), (.bipush 44, 2)] ⟨dX1_readPart_114, dX1_readPart_115, rfl⟩ rfl ?_
                refine t_callVI C 120 [vI 44] [] dX1_readPart_117 rfl (ok_X1_eats hG hw) q2497 q2499 qs80 q159 q2500 hd_X1_eats ⟨Nat.ble_eq_true_of_le (by omega), Nat.ble_eq_true_of_le (by omega), rfl⟩ (fun r34 T33 hw => ?_)
                refine t_if_eq C 147 123 dX1_readPart_120 rfl rfl (fun hc35 => ?_) (fun hc35 => ?_)
                · replace hw := hw.1 hc35
                  refine t_b C (pc' := 150) (L' := [(3, vI 0), (0, vA (some o)), (1, vI p0), (2, vI p1)]) (st' := [vI 0]) [(.iconst 0, 1), (.istore_n 3, 1), (.iload_n 3, 1)] ⟨dX1_readPart_147, dX1_readPart_148, dX1_readPart_149, rfl⟩ rfl ?_
                  refine t_if_eq C 159 153 dX1_readPart_150 rfl rfl (fun _ => ?_) (fun hc => absurd rfl hc)
                  refine t_b C (pc' := 160) (L' := [(3, vI 0), (0, vA (some o)), (1, vI p0), (2, vI p1)]) (st' := [vI 0]) [(.iload_n 3, 1)] ⟨dX1_readPart_159, rfl⟩ rfl ?_
                  exact t_zret C dX1_readPart_160 rfl ⟨_, rfl, hw⟩
                · replace hw := hw.2 hc35
                  refine t_b C (pc' := 128) (L' := [(0, vA (some o)), (1, vI p0), (2, vI p1)]) (st' := [vI (p1 + 1), vI p0, vA (some o)]) [(.aload_n 0, 1), (.iload_n 1, 1), (.iload_n 2, 1), (.iconst 1, 1), (.iadd, 1)] ⟨dX1_readPart_123, dX1_readPart_124, dX1_readPart_125, dX1_readPart_126, dX1_readPart_127, rfl⟩ rfl ?_
                  refine t_callVI C 131 [vI p0, vI (p1 + 1)] [] dX1_readPart_128 rfl (hrs hw) q2526 q2528 qs85 q159 q2529 hd_X1_readSum ⟨Nat.ble_eq_true_of_le (by omega), Nat.ble_eq_true_of_le (by omega), rfl⟩ (fun r37 T36 hw => ?_)
                  refine t_if_eq C 147 134 dX1_readPart_131 rfl rfl (fun hc38 => ?_) (fun hc38 => ?_)
                  · replace hw := hw.1 hc38
                    refine t_b C (pc' := 150) (L' := [(3, vI 0), (0, vA (some o)), (1, vI p0), (2, vI p1)]) (st' := [vI 0]) [(.iconst 0, 1), (.istore_n 3, 1), (.iload_n 3, 1)] ⟨dX1_readPart_147, dX1_readPart_148, dX1_readPart_149, rfl⟩ rfl ?_
                    refine t_if_eq C 159 153 dX1_readPart_150 rfl rfl (fun _ => ?_) (fun hc => absurd rfl hc)
                    refine t_b C (pc' := 160) (L' := [(3, vI 0), (0, vA (some o)), (1, vI p0), (2, vI p1)]) (st' := [vI 0]) [(.iload_n 3, 1)] ⟨dX1_readPart_159, rfl⟩ rfl ?_
                    exact t_zret C dX1_readPart_160 rfl ⟨_, rfl, hw⟩
                  · replace hw := hw.2 hc38
                    refine t_b C (pc' := 137) (L' := [(0, vA (some o)), (1, vI p0), (2, vI p1)]) (st' := [vI 41, vA (some o)]) [(.aload_n 0, 1), (.bipush 41, 2)] ⟨dX1_readPart_134, dX1_readPart_135, rfl⟩ rfl ?_
                    refine t_callVI C 140 [vI 41] [] dX1_readPart_137 rfl (ok_X1_eats hG hw) q2497 q2499 qs80 q159 q2500 hd_X1_eats ⟨Nat.ble_eq_true_of_le (by omega), Nat.ble_eq_true_of_le (by omega), rfl⟩ (fun r40 T39 hw => ?_)
                    have kj42 : ∀ (m41 : Int32), m41 = (if r40 = 0 then 0 else 1) → K 148 [(0, vA (some o))] [vI m41] T39 := by
                      intro m41 em41
                      replace hw := hw m41 em41
                      refine t_b C (pc' := 150) (L' := [(3, vI m41), (0, vA (some o))]) (st' := [vI m41]) [(.istore_n 3, 1), (.iload_n 3, 1)] ⟨dX1_readPart_148, dX1_readPart_149, rfl⟩ rfl ?_
                      refine t_if_eq C 159 153 dX1_readPart_150 rfl rfl (fun hc43 => ?_) (fun hc43 => ?_)
                      · replace hw := hw.1 hc43
                        refine t_b C (pc' := 160) (L' := [(3, vI m41), (0, vA (some o))]) (st' := [vI m41]) [(.iload_n 3, 1)] ⟨dX1_readPart_159, rfl⟩ rfl ?_
                        exact t_zret C dX1_readPart_160 (bz_n hw.1) ⟨_, rfl, hw.2⟩
                      · replace hw := hw.2 hc43
                        refine t_b C (pc' := 156) (L' := [(3, vI m41), (0, vA (some o))]) (st' := [vI 0, vI 3, vA (some o)]) [(.aload_n 0, 1), (.iconst 3, 1), (.iconst 0, 1)] ⟨dX1_readPart_153, dX1_readPart_154, dX1_readPart_155, rfl⟩ rfl ?_
                        refine t_callVV C 159 [vI 3, vI 0] [] dX1_readPart_156 rfl (ok_X1_codes hG hw) q2542 q2544 qs89 q159 q2545 hd_X1_codes ⟨Nat.ble_eq_true_of_le (by omega), Nat.ble_eq_true_of_le (by omega), rfl⟩ (fun T44 hw => ?_)
                        refine t_b C (pc' := 160) (L' := [(3, vI m41), (0, vA (some o))]) (st' := [vI m41]) [(.iload_n 3, 1)] ⟨dX1_readPart_159, rfl⟩ rfl ?_
                        exact t_zret C dX1_readPart_160 (bz_n hw.1) ⟨_, rfl, hw.2⟩
                    refine t_if_eq C 147 143 dX1_readPart_140 rfl rfl (fun hc46 => ?_) (fun hc46 => ?_)
                    · refine t_b C (pc' := 148) (L' := [(0, vA (some o)), (1, vI p0), (2, vI p1)]) (st' := [vI 0]) [(.iconst 0, 1)] ⟨dX1_readPart_147, rfl⟩ rfl ?_
                      refine t_sub C (L' := [(0, vA (some o))]) [0] rfl ?_
                      exact kj42 _ ((if_pos hc46).symm)
                    · refine t_b C (pc' := 144) (L' := [(0, vA (some o)), (1, vI p0), (2, vI p1)]) (st' := [vI 1]) [(.iconst 1, 1)] ⟨dX1_readPart_143, rfl⟩ rfl ?_
                      refine t_goto C 148 dX1_readPart_144 rfl ?_
                      refine t_sub C (L' := [(0, vA (some o))]) [0] rfl ?_
                      exact kj42 _ ((if_neg hc46).symm)
        · replace hw := hw.1 hc23
          refine t_b C (pc' := 82) (L' := [(0, vA (some o)), (1, vI p0), (2, vI p1)]) (st' := [vI 0]) [(.iconst 0, 1)] ⟨dX1_readPart_81, rfl⟩ rfl ?_
          exact t_zret C dX1_readPart_82 rfl ⟨_, rfl, hw⟩
    · replace hw := hw.2 hc4
      refine t_b C (pc' := 23) (L' := [(0, vA (some o)), (1, vI p0), (2, vI p1)]) (st' := [vA (some o)]) [(.aload_n 0, 1)] ⟨dX1_readPart_22, rfl⟩ rfl ?_
      refine t_gI C 220 26 dX1_readPart_23 rfl rfl rfl q2208 (fun _ _ _ => rfl) ?_
      refine t_b C (pc' := 28) (L' := [(0, vA (some o)), (1, vI p0), (2, vI p1)]) (st' := [vI 24, vI (T2.s 220)]) [(.bipush 24, 2)] ⟨dX1_readPart_26, rfl⟩ rfl ?_
      refine t_icmp_ne C 38 31 dX1_readPart_28 rfl rfl (fun hc47 => ?_) (fun hc47 => ?_)
      · replace hw := hw.2 hc47
        refine t_b C (pc' := 40) (L' := [(0, vA (some o)), (1, vI p0), (2, vI p1)]) (st' := [vA (some o), vA (some o)]) [(.aload_n 0, 1), (.dup, 1)] ⟨dX1_readPart_38, dX1_readPart_39, rfl⟩ rfl ?_
        refine t_gI C 220 43 dX1_readPart_40 rfl rfl rfl q2208 (fun _ _ _ => rfl) ?_
        refine t_b C (pc' := 45) (L' := [(0, vA (some o)), (1, vI p0), (2, vI p1)]) (st' := [vI ((T2.s 220) + 1), vA (some o)]) [(.iconst 1, 1), (.iadd, 1)] ⟨dX1_readPart_43, dX1_readPart_44, rfl⟩ rfl ?_
        refine t_pI C 220 48 dX1_readPart_45 rfl rfl rfl rfl q2208 (fun _ _ _ => rfl) rfl rfl (fun T48 eT48 => ?_)
        replace hw := hw T48 eT48
        refine t_b C (pc' := 51) (L' := [(0, vA (some o)), (1, vI p0), (2, vI p1)]) (st' := [vI 0, vI 1, vA (some o)]) [(.aload_n 0, 1), (.iconst 1, 1), (.iconst 0, 1)] ⟨dX1_readPart_48, dX1_readPart_49, dX1_readPart_50, rfl⟩ rfl ?_
        refine t_callVV C 54 [vI 1, vI 0] [] dX1_readPart_51 rfl (ok_X1_codes hG hw) q2542 q2544 qs89 q159 q2545 hd_X1_codes ⟨Nat.ble_eq_true_of_le (by omega), Nat.ble_eq_true_of_le (by omega), rfl⟩ (fun T49 hw => ?_)
        refine t_b C (pc' := 55) (L' := [(0, vA (some o)), (1, vI p0), (2, vI p1)]) (st' := [vA (some o)]) [(.aload_n 0, 1)] ⟨dX1_readPart_54, rfl⟩ rfl ?_
        refine t_callVV C 58 [] [] dX1_readPart_55 rfl (ok_X1_go hG hw) q2442 q2444 qs72 q159 q2445 hd_X1_go ⟨Nat.ble_eq_true_of_le (by omega), Nat.ble_eq_true_of_le (by omega), rfl⟩ (fun T51 hw => ?_)
        refine t_b C (pc' := 59) (L' := [(0, vA (some o)), (1, vI p0), (2, vI p1)]) (st' := [vI 1]) [(.iconst 1, 1)] ⟨dX1_readPart_58, rfl⟩ rfl ?_
        exact t_zret C dX1_readPart_59 rfl ⟨_, rfl, hw⟩
      · replace hw := hw.1 hc47
        refine t_b C (pc' := 34) (L' := [(0, vA (some o)), (1, vI p0), (2, vI p1)]) (st' := [vI 6, vA (some o)]) [(.aload_n 0, 1), (.bipush 6, 2)] ⟨dX1_readPart_31, dX1_readPart_32, rfl⟩ rfl ?_
        refine t_callVI C 37 [vI 6] [] dX1_readPart_34 rfl (ok_X1_bad hG hw) q2479 q2481 qs77 q159 q2482 hd_X1_bad ⟨Nat.ble_eq_true_of_le (by omega), Nat.ble_eq_true_of_le (by omega), rfl⟩ (fun r54 T53 hw => ?_)
        exact t_zret C dX1_readPart_37 (bz_n hw.1) ⟨_, rfl, hw.2⟩
  · replace hw := hw.1 hc1
    refine t_b C (pc' := 10) (L' := [(0, vA (some o)), (1, vI p0), (2, vI p1)]) (st' := [vI p0, vA (some o)]) [(.aload_n 0, 1), (.iload_n 1, 1)] ⟨dX1_readPart_8, dX1_readPart_9, rfl⟩ rfl ?_
    refine t_callVI C 13 [vI p0] [] dX1_readPart_10 rfl (ok_X1_readNumber hG hw) q2534 q2536 qs87 q159 q2537 hd_X1_readNumber ⟨Nat.ble_eq_true_of_le (by omega), Nat.ble_eq_true_of_le (by omega), rfl⟩ (fun r56 T55 hw => ?_)
    exact t_zret C dX1_readPart_13 (bz_n hw.1) ⟨_, rfl, hw.2⟩
def wp_X1_readSum : Nat → Int32 → Int32 → TS → (Int32 → TS → Prop) → Prop
  | 0, _, _, _, _ => False
  | d + 1, p0, p1, T, Q =>
    wp_X1_readPart (wp_X1_readSum d) p0 p1 T fun r2 T1 =>
    ((r2 = 0 →
    Q 0 T1) ∧ (¬ r2 = 0 →
    wp_X1_joint  T1 fun r5 T4 =>
    tlp (σ := Int32) (fun s6 T7 k6 =>
    ((s6 = (-1) →
    Q 1 T7) ∧ (¬ s6 = (-1) →
    wp_X1_go  T7 fun T9 =>
    wp_X1_readPart (wp_X1_readSum d) p0 p1 T9 fun r12 T11 =>
    ((r12 = 0 →
    Q 0 T11) ∧ (¬ r12 = 0 →
    wp_X1_codes s6 0 T11 fun T14 =>
    wp_X1_joint  T14 fun r17 T16 =>
    k6 r17 T16))))) r5 T4))
theorem ok_X1_readSum {l : Launch} {D : va_G} {s0 : S0} (hG : G0 D s0) {o : Nat} : ∀ (d : Nat) {p0 : Int32} {p1 : Int32} {T : TS} {Q : Int32 → TS → Prop}, wp_X1_readSum d p0 p1 T Q → OKt l D s0 o yX1_readSum cX1_readSum 4 (some .boolean) (4 + d * 6) (88 + d * 138) [vA (some o), vI p0, vI p1] T (TI Q) := by
  intro d
  induction d with
  | zero => intro p0 p1 T Q hw; exact hw.elim
  | succ d ih =>
  intro p0 p1 T Q hw
  refine t_met hG rfl rfl (L0 := [(0, vA (some o)), (1, vI p0), (2, vI p1)]) rfl rfl ?_
  intro h K C
  unfold wp_X1_readSum at hw
  refine t_b C (pc' := 3) (L' := [(0, vA (some o)), (1, vI p0), (2, vI p1)]) (st' := [vI p1, vI p0, vA (some o)]) [(.aload_n 0, 1), (.iload_n 1, 1), (.iload_n 2, 1)] ⟨dX1_readSum_0, dX1_readSum_1, dX1_readSum_2, rfl⟩ rfl ?_
  refine t_callVI C 6 [vI p0, vI p1] [] dX1_readSum_3 rfl (ok_X1_readPart hG ih hw) q2530 q2532 qs86 q159 q2533 hd_X1_readPart ⟨Nat.ble_eq_true_of_le (by omega), Nat.ble_eq_true_of_le (by omega), rfl⟩ (fun r2 T1 hw => ?_)
  refine t_if_ne C 11 9 dX1_readSum_6 rfl rfl (fun hc3 => ?_) (fun hc3 => ?_)
  · replace hw := hw.2 hc3
    refine t_b C (pc' := 12) (L' := [(0, vA (some o)), (1, vI p0), (2, vI p1)]) (st' := [vA (some o)]) [(.aload_n 0, 1)] ⟨dX1_readSum_11, rfl⟩ rfl ?_
    refine t_callVI C 15 [] [] dX1_readSum_12 rfl (ok_X1_joint hG hw) q2550 q2552 qs91 q159 q2553 hd_X1_joint ⟨Nat.ble_eq_true_of_le (by omega), Nat.ble_eq_true_of_le (by omega), rfl⟩ (fun r5 T4 hw => ?_)
    refine t_b C (pc' := 16) (L' := [(3, vI r5), (0, vA (some o)), (1, vI p0), (2, vI p1)]) (st' := []) [(.istore_n 3, 1)] ⟨dX1_readSum_15, rfl⟩ rfl ?_
    obtain ⟨I6, ⟨n6, hI6⟩, hB6⟩ := tlp.out hw
    refine t_sub C (L' := [(0, vA (some o)), (1, vI p0), (2, vI p1), (3, vI r5)]) [1, 2, 3, 0] rfl ?_
    have key6 : ∀ (n : Nat) (s6 : Int32) (T7 : TS), I6 n s6 T7 → K 16 [(0, vA (some o)), (1, vI p0), (2, vI p1), (3, vI s6)] [] T7 := by
      intro n
      induction n using Nat.strongRecOn with
      | ind n ih6 =>
        intro s6 T7 hI
        replace hw := hB6 n s6 T7 hI
        refine t_b C (pc' := 18) (L' := [(0, vA (some o)), (1, vI p0), (2, vI p1), (3, vI s6)]) (st' := [vI (-1), vI s6]) [(.iload_n 3, 1), (.iconst (-1), 1)] ⟨dX1_readSum_16, dX1_readSum_17, rfl⟩ rfl ?_
        refine t_icmp_eq C 50 21 dX1_readSum_18 rfl rfl (fun hc8 => ?_) (fun hc8 => ?_)
        · replace hw := hw.1 hc8
          refine t_b C (pc' := 51) (L' := [(0, vA (some o)), (1, vI p0), (2, vI p1), (3, vI s6)]) (st' := [vI 1]) [(.iconst 1, 1)] ⟨dX1_readSum_50, rfl⟩ rfl ?_
          exact t_zret C dX1_readSum_51 rfl ⟨_, rfl, hw⟩
        · replace hw := hw.2 hc8
          refine t_b C (pc' := 22) (L' := [(0, vA (some o)), (1, vI p0), (2, vI p1), (3, vI s6)]) (st' := [vA (some o)]) [(.aload_n 0, 1)] ⟨dX1_readSum_21, rfl⟩ rfl ?_
          refine t_callVV C 25 [] [] dX1_readSum_22 rfl (ok_X1_go hG hw) q2442 q2444 qs72 q159 q2445 hd_X1_go ⟨Nat.ble_eq_true_of_le (by omega), Nat.ble_eq_true_of_le (by omega), rfl⟩ (fun T9 hw => ?_)
          refine t_b C (pc' := 28) (L' := [(0, vA (some o)), (1, vI p0), (2, vI p1), (3, vI s6)]) (st' := [vI p1, vI p0, vA (some o)]) [(.aload_n 0, 1), (.iload_n 1, 1), (.iload_n 2, 1)] ⟨dX1_readSum_25, dX1_readSum_26, dX1_readSum_27, rfl⟩ rfl ?_
          refine t_callVI C 31 [vI p0, vI p1] [] dX1_readSum_28 rfl (ok_X1_readPart hG ih hw) q2530 q2532 qs86 q159 q2533 hd_X1_readPart ⟨Nat.ble_eq_true_of_le (by omega), Nat.ble_eq_true_of_le (by omega), rfl⟩ (fun r12 T11 hw => ?_)
          refine t_if_ne C 36 34 dX1_readSum_31 rfl rfl (fun hc13 => ?_) (fun hc13 => ?_)
          · replace hw := hw.2 hc13
            refine t_b C (pc' := 39) (L' := [(0, vA (some o)), (1, vI p0), (2, vI p1), (3, vI s6)]) (st' := [vI 0, vI s6, vA (some o)]) [(.aload_n 0, 1), (.iload_n 3, 1), (.iconst 0, 1)] ⟨dX1_readSum_36, dX1_readSum_37, dX1_readSum_38, rfl⟩ rfl ?_
            refine t_callVV C 42 [vI s6, vI 0] [] dX1_readSum_39 rfl (ok_X1_codes hG hw) q2542 q2544 qs89 q159 q2545 hd_X1_codes ⟨Nat.ble_eq_true_of_le (by omega), Nat.ble_eq_true_of_le (by omega), rfl⟩ (fun T14 hw => ?_)
            refine t_b C (pc' := 43) (L' := [(0, vA (some o)), (1, vI p0), (2, vI p1), (3, vI s6)]) (st' := [vA (some o)]) [(.aload_n 0, 1)] ⟨dX1_readSum_42, rfl⟩ rfl ?_
            refine t_callVI C 46 [] [] dX1_readSum_43 rfl (ok_X1_joint hG hw) q2550 q2552 qs91 q159 q2553 hd_X1_joint ⟨Nat.ble_eq_true_of_le (by omega), Nat.ble_eq_true_of_le (by omega), rfl⟩ (fun r17 T16 hw => ?_)
            refine t_b C (pc' := 47) (L' := [(3, vI r17), (0, vA (some o)), (1, vI p0), (2, vI p1)]) (st' := []) [(.istore_n 3, 1)] ⟨dX1_readSum_46, rfl⟩ rfl ?_
            refine t_goto C 16 dX1_readSum_47 rfl ?_
            refine t_sub C (L' := [(0, vA (some o)), (1, vI p0), (2, vI p1), (3, vI r17)]) [1, 2, 3, 0] rfl ?_
            obtain ⟨m9, hm9, hw⟩ := hw
            exact ih6 m9 hm9 r17 T16 hw
          · replace hw := hw.1 hc13
            refine t_b C (pc' := 35) (L' := [(0, vA (some o)), (1, vI p0), (2, vI p1), (3, vI s6)]) (st' := [vI 0]) [(.iconst 0, 1)] ⟨dX1_readSum_34, rfl⟩ rfl ?_
            exact t_zret C dX1_readSum_35 rfl ⟨_, rfl, hw⟩
    exact key6 n6 r5 T4 hI6
  · replace hw := hw.1 hc3
    refine t_b C (pc' := 10) (L' := [(0, vA (some o)), (1, vI p0), (2, vI p1)]) (st' := [vI 0]) [(.iconst 0, 1)] ⟨dX1_readSum_9, rfl⟩ rfl ?_
    exact t_zret C dX1_readSum_10 rfl ⟨_, rfl, hw⟩
def wp_X1_readRule  (T : TS) (Q : Int32 → TS → Prop) : Prop :=
  wp_X1_go  T fun T1 =>
  wp_X1_isName  T1 fun r4 T3 =>
  ((r4 = 0 →
  wp_X1_bad 2 T3 fun r50 T49 =>
  bz r50 ∧ Q r50 T49) ∧ (¬ r4 = 0 →
  tix 2 40 1 ∧
  wp_X1_findIn 4 8 (T3.a 2 (ni 1)) (T3.w 218) T3 fun r7 T6 =>
  ((r7 = (-1) →
  wp_X1_bad 3 T6 fun r48 T47 =>
  bz r48 ∧ Q r48 T47) ∧ (¬ r7 = (-1) →
  wp_X1_go  T6 fun T9 =>
  (((T9.s 213) = 3 →
  wp_X1_isPosition 2 r7 (T9.s 214) T9 fun r13 T12 =>
  ((r13 = 0 →
  wp_X1_bad 3 T12 fun r44 T43 =>
  bz r44 ∧ Q r44 T43) ∧ (¬ r13 = 0 →
  wp_X1_go  T12 fun T15 =>
  wp_X1_readOccName r7 (T12.s 214) T15 fun r18 T17 =>
  ((r18 = 0 →
  Q 0 T17) ∧ (¬ r18 = 0 →
  wp_X1_canTell 2 r7 (T17.s 219) T17 fun r21 T20 =>
  ((r21 = 0 →
  wp_X1_bad 5 T20 fun r24 T23 =>
  bz r24 ∧ Q r24 T23) ∧ (¬ r21 = 0 →
  tix 2 40 (1232 + ((32 * r7) + (T17.s 219))) ∧
  (((T20.a 2 (ni (1232 + ((32 * r7) + (T17.s 219))))) = 1 →
  wp_X1_bad 5 T20 fun r42 T41 =>
  bz r42 ∧ Q r42 T41) ∧ (¬ (T20.a 2 (ni (1232 + ((32 * r7) + (T17.s 219))))) = 1 →
  wp_X1_go  T20 fun T26 =>
  wp_X1_eats 61 T26 fun r29 T28 =>
  ((r29 = 0 →
  Q 0 T28) ∧ (¬ r29 = 0 →
  ∀ T31, T31 = T28.ss 220 0 →
  ∀ T32, T32 = T31.ss 221 0 →
  tix 2 40 3 ∧
  tix 2 40 (80 + ((32 * r7) + (T17.s 219))) ∧
  ∀ T33, T33 = T32.sa 2 (ni (80 + ((32 * r7) + (T17.s 219)))) (T32.a 2 (ni 3)) →
  wp_X1_readSum 9 r7 0 T33 fun r35 T34 =>
  ((r35 = 0 →
  Q 0 T34) ∧ (¬ r35 = 0 →
  tix 2 40 3 ∧
  tix 2 40 (464 + ((32 * r7) + (T17.s 219))) ∧
  ∀ T37, T37 = T34.sa 2 (ni (464 + ((32 * r7) + (T17.s 219)))) (T34.a 2 (ni 3)) →
  tix 2 40 (848 + ((32 * r7) + (T17.s 219))) ∧
  ∀ T38, T38 = T37.sa 2 (ni (848 + ((32 * r7) + (T17.s 219)))) (T37.s 221) →
  tix 2 40 (1232 + ((32 * r7) + (T17.s 219))) ∧
  ∀ T39, T39 = T38.sa 2 (ni (1232 + ((32 * r7) + (T17.s 219)))) 1 →
  tix 2 40 2 ∧
  tix 2 40 2 ∧
  ∀ T40, T40 = T39.sa 2 (ni 2) ((T39.a 2 (ni 2)) + 1) →
  Q 1 T40))))))))))))) ∧ (¬ (T9.s 213) = 3 →
  wp_X1_bad 2 T9 fun r46 T45 =>
  bz r46 ∧ Q r46 T45))))))
theorem hd_X1_readRule : yX1_readRule.cls = RX1 ∧ yX1_readRule.cls ≠ "java/lang/invoke/MethodHandle" ∧ yX1_readRule.cls ≠ "java/lang/invoke/VarHandle" ∧ (parseMethodDescriptor yX1_readRule.desc).map (fun d => d.parameters.length) = some 0 := by decide +kernel
theorem ok_X1_readRule {l : Launch} {D : va_G} {s0 : S0} (hG : G0 D s0) {o : Nat}  {T : TS} {Q : Int32 → TS → Prop} (hw : wp_X1_readRule  T Q) : OKt l D s0 o yX1_readRule cX1_readRule 4 (some .boolean) 59 1353 [vA (some o)] T (TI Q) := by
  refine t_met hG rfl rfl (L0 := [(0, vA (some o))]) rfl rfl ?_
  intro h K C
  unfold wp_X1_readRule at hw
  refine t_b C (pc' := 1) (L' := [(0, vA (some o))]) (st' := [vA (some o)]) [(.aload_n 0, 1)] ⟨dX1_readRule_0, rfl⟩ rfl ?_
  refine t_callVV C 4 [] [] dX1_readRule_1 rfl (ok_X1_go hG hw) q2442 q2444 qs72 q159 q2445 hd_X1_go ⟨rfl, rfl, rfl⟩ (fun T1 hw => ?_)
  refine t_b C (pc' := 5) (L' := [(0, vA (some o))]) (st' := [vA (some o)]) [(.aload_n 0, 1)] ⟨dX1_readRule_4, rfl⟩ rfl ?_
  refine t_callVI C 8 [] [] dX1_readRule_5 rfl (ok_X1_isName hG hw) q2483 q2485 qs78 q159 q2486 hd_X1_isName ⟨rfl, rfl, rfl⟩ (fun r4 T3 hw => ?_)
  refine t_if_ne C 17 11 dX1_readRule_8 rfl rfl (fun hc5 => ?_) (fun hc5 => ?_)
  · replace hw := hw.2 hc5
    refine t_b C (pc' := 18) (L' := [(0, vA (some o))]) (st' := [vA (some o)]) [(.aload_n 0, 1)] ⟨dX1_readRule_17, rfl⟩ rfl ?_
    refine t_gA C 204 4 21 dX1_readRule_18 rfl rfl rfl rfl rfl q2192 (fun _ _ _ => rfl) ?_
    refine t_b C (pc' := 24) (L' := [(0, vA (some o))]) (st' := [vA (some o), vI 8, vA (some (o + 1 + 4))]) [(.bipush 8, 2), (.aload_n 0, 1)] ⟨dX1_readRule_21, dX1_readRule_23, rfl⟩ rfl ?_
    refine t_gA C 202 2 27 dX1_readRule_24 rfl rfl rfl rfl rfl q2190 (fun _ _ _ => rfl) ?_
    refine t_b C (pc' := 28) (L' := [(0, vA (some o))]) (st' := [vI 1, vA (some (o + 1 + 2)), vI 8, vA (some (o + 1 + 4))]) [(.iconst 1, 1)] ⟨dX1_readRule_27, rfl⟩ rfl ?_
    refine t_iald C 29 dX1_readRule_28 rfl hw.1 ?_
    replace hw := hw.2
    refine t_b C (pc' := 30) (L' := [(0, vA (some o))]) (st' := [vA (some o), vI (T3.a 2 (ni 1)), vI 8, vA (some (o + 1 + 4))]) [(.aload_n 0, 1)] ⟨dX1_readRule_29, rfl⟩ rfl ?_
    refine t_gJ C 218 33 dX1_readRule_30 rfl rfl rfl q2206 (fun _ _ _ => rfl) ?_
    refine t_callSI C 36 [vA (some (o + 1 + 4)), vI 8, vI (T3.a 2 (ni 1)), vJ (T3.w 218)] [] dX1_readRule_33 rfl (ok_X1_findIn hG hw) q2487 q2488 q159 q2489 hd_X1_findIn ⟨rfl, rfl, rfl⟩ (fun r7 T6 hw => ?_)
    refine t_b C (pc' := 39) (L' := [(1, vI r7), (0, vA (some o))]) (st' := [vI (-1), vI r7]) [(.istore_n 1, 1), (.iload_n 1, 1), (.iconst (-1), 1)] ⟨dX1_readRule_36, dX1_readRule_37, dX1_readRule_38, rfl⟩ rfl ?_
    refine t_icmp_ne C 48 42 dX1_readRule_39 rfl rfl (fun hc8 => ?_) (fun hc8 => ?_)
    · replace hw := hw.2 hc8
      refine t_b C (pc' := 49) (L' := [(1, vI r7), (0, vA (some o))]) (st' := [vA (some o)]) [(.aload_n 0, 1)] ⟨dX1_readRule_48, rfl⟩ rfl ?_
      refine t_callVV C 52 [] [] dX1_readRule_49 rfl (ok_X1_go hG hw) q2442 q2444 qs72 q159 q2445 hd_X1_go ⟨rfl, rfl, rfl⟩ (fun T9 hw => ?_)
      refine t_b C (pc' := 53) (L' := [(1, vI r7), (0, vA (some o))]) (st' := [vA (some o)]) [(.aload_n 0, 1)] ⟨dX1_readRule_52, rfl⟩ rfl ?_
      refine t_gI C 213 56 dX1_readRule_53 rfl rfl rfl q2201 (fun _ _ _ => rfl) ?_
      refine t_b C (pc' := 57) (L' := [(1, vI r7), (0, vA (some o))]) (st' := [vI 3, vI (T9.s 213)]) [(.iconst 3, 1)] ⟨dX1_readRule_56, rfl⟩ rfl ?_
      refine t_icmp_eq C 66 60 dX1_readRule_57 rfl rfl (fun hc11 => ?_) (fun hc11 => ?_)
      · replace hw := hw.1 hc11
        refine t_b C (pc' := 67) (L' := [(1, vI r7), (0, vA (some o))]) (st' := [vA (some o)]) [(.aload_n 0, 1)] ⟨dX1_readRule_66, rfl⟩ rfl ?_
        refine t_gA C 202 2 70 dX1_readRule_67 rfl rfl rfl rfl rfl q2190 (fun _ _ _ => rfl) ?_
        refine t_b C (pc' := 72) (L' := [(1, vI r7), (0, vA (some o))]) (st' := [vA (some o), vI r7, vA (some (o + 1 + 2))]) [(.iload_n 1, 1), (.aload_n 0, 1)] ⟨dX1_readRule_70, dX1_readRule_71, rfl⟩ rfl ?_
        refine t_gI C 214 75 dX1_readRule_72 rfl rfl rfl q2202 (fun _ _ _ => rfl) ?_
        refine t_callSI C 78 [vA (some (o + 1 + 2)), vI r7, vI (T9.s 214)] [] dX1_readRule_75 rfl (ok_X1_isPosition hG hw) q2513 q2514 q159 q2515 hd_X1_isPosition ⟨rfl, rfl, rfl⟩ (fun r13 T12 hw => ?_)
        refine t_if_ne C 87 81 dX1_readRule_78 rfl rfl (fun hc14 => ?_) (fun hc14 => ?_)
        · replace hw := hw.2 hc14
          refine t_b C (pc' := 88) (L' := [(1, vI r7), (0, vA (some o))]) (st' := [vA (some o)]) [(.aload_n 0, 1)] ⟨dX1_readRule_87, rfl⟩ rfl ?_
          refine t_gI C 214 91 dX1_readRule_88 rfl rfl rfl q2202 (fun _ _ _ => rfl) ?_
          refine t_b C (pc' := 93) (L' := [(2, vI (T12.s 214)), (1, vI r7), (0, vA (some o))]) (st' := [vA (some o)]) [(.istore_n 2, 1), (.aload_n 0, 1)] ⟨dX1_readRule_91, dX1_readRule_92, rfl⟩ rfl ?_
          refine t_callVV C 96 [] [] dX1_readRule_93 rfl (ok_X1_go hG hw) q2442 q2444 qs72 q159 q2445 hd_X1_go ⟨rfl, rfl, rfl⟩ (fun T15 hw => ?_)
          refine t_b C (pc' := 99) (L' := [(2, vI (T12.s 214)), (1, vI r7), (0, vA (some o))]) (st' := [vI (T12.s 214), vI r7, vA (some o)]) [(.aload_n 0, 1), (.iload_n 1, 1), (.iload_n 2, 1)] ⟨dX1_readRule_96, dX1_readRule_97, dX1_readRule_98, rfl⟩ rfl ?_
          refine t_callVI C 102 [vI r7, vI (T12.s 214)] [] dX1_readRule_99 rfl (ok_X1_readOccName hG hw) q2516 q2518 qs84 q159 q2519 hd_X1_readOccName ⟨rfl, rfl, rfl⟩ (fun r18 T17 hw => ?_)
          refine t_if_ne C 107 105 dX1_readRule_102 rfl rfl (fun hc19 => ?_) (fun hc19 => ?_)
          · replace hw := hw.2 hc19
            refine t_b C (pc' := 112) (L' := [(2, vI (T12.s 214)), (1, vI r7), (0, vA (some o))]) (st' := [vA (some o), vI (32 * r7)]) [(.bipush 32, 2), (.iload_n 1, 1), (.imul, 1), (.aload_n 0, 1)] ⟨dX1_readRule_107, dX1_readRule_109, dX1_readRule_110, dX1_readRule_111, rfl⟩ rfl ?_
            refine t_gI C 219 115 dX1_readRule_112 rfl rfl rfl q2207 (fun _ _ _ => rfl) ?_
            refine t_b C (pc' := 118) (L' := [(3, vI ((32 * r7) + (T17.s 219))), (2, vI (T12.s 214)), (1, vI r7), (0, vA (some o))]) (st' := [vA (some o)]) [(.iadd, 1), (.istore_n 3, 1), (.aload_n 0, 1)] ⟨dX1_readRule_115, dX1_readRule_116, dX1_readRule_117, rfl⟩ rfl ?_
            refine t_gA C 202 2 121 dX1_readRule_118 rfl rfl rfl rfl rfl q2190 (fun _ _ _ => rfl) ?_
            refine t_b C (pc' := 123) (L' := [(3, vI ((32 * r7) + (T17.s 219))), (2, vI (T12.s 214)), (1, vI r7), (0, vA (some o))]) (st' := [vA (some o), vI r7, vA (some (o + 1 + 2))]) [(.iload_n 1, 1), (.aload_n 0, 1)] ⟨dX1_readRule_121, dX1_readRule_122, rfl⟩ rfl ?_
            refine t_gI C 219 126 dX1_readRule_123 rfl rfl rfl q2207 (fun _ _ _ => rfl) ?_
            refine t_callSI C 129 [vA (some (o + 1 + 2)), vI r7, vI (T17.s 219)] [] dX1_readRule_126 rfl (ok_X1_canTell hG hw) q2523 q2524 q159 q2525 hd_X1_canTell ⟨rfl, rfl, rfl⟩ (fun r21 T20 hw => ?_)
            refine t_if_eq C 146 132 dX1_readRule_129 rfl rfl (fun hc22 => ?_) (fun hc22 => ?_)
            · replace hw := hw.1 hc22
              refine t_b C (pc' := 148) (L' := [(3, vI ((32 * r7) + (T17.s 219))), (2, vI (T12.s 214)), (1, vI r7), (0, vA (some o))]) (st' := [vI 5, vA (some o)]) [(.aload_n 0, 1), (.iconst 5, 1)] ⟨dX1_readRule_146, dX1_readRule_147, rfl⟩ rfl ?_
              refine t_callVI C 151 [vI 5] [] dX1_readRule_148 rfl (ok_X1_bad hG hw) q2479 q2481 qs77 q159 q2482 hd_X1_bad ⟨rfl, rfl, rfl⟩ (fun r24 T23 hw => ?_)
              exact t_zret C dX1_readRule_151 (bz_n hw.1) ⟨_, rfl, hw.2⟩
            · replace hw := hw.2 hc22
              refine t_b C (pc' := 133) (L' := [(3, vI ((32 * r7) + (T17.s 219))), (2, vI (T12.s 214)), (1, vI r7), (0, vA (some o))]) (st' := [vA (some o)]) [(.aload_n 0, 1)] ⟨dX1_readRule_132, rfl⟩ rfl ?_
              refine t_gA C 202 2 136 dX1_readRule_133 rfl rfl rfl rfl rfl q2190 (fun _ _ _ => rfl) ?_
              refine t_b C (pc' := 141) (L' := [(3, vI ((32 * r7) + (T17.s 219))), (2, vI (T12.s 214)), (1, vI r7), (0, vA (some o))]) (st' := [vI (1232 + ((32 * r7) + (T17.s 219))), vA (some (o + 1 + 2))]) [(.sipush 1232, 3), (.iload_n 3, 1), (.iadd, 1)] ⟨dX1_readRule_136, dX1_readRule_139, dX1_readRule_140, rfl⟩ rfl ?_
              refine t_iald C 142 dX1_readRule_141 rfl hw.1 ?_
              replace hw := hw.2
              refine t_b C (pc' := 143) (L' := [(3, vI ((32 * r7) + (T17.s 219))), (2, vI (T12.s 214)), (1, vI r7), (0, vA (some o))]) (st' := [vI 1, vI (T20.a 2 (ni (1232 + ((32 * r7) + (T17.s 219)))))]) [(.iconst 1, 1)] ⟨dX1_readRule_142, rfl⟩ rfl ?_
              refine t_icmp_ne C 152 146 dX1_readRule_143 rfl rfl (fun hc25 => ?_) (fun hc25 => ?_)
              · replace hw := hw.2 hc25
                refine t_b C (pc' := 153) (L' := [(3, vI ((32 * r7) + (T17.s 219))), (2, vI (T12.s 214)), (1, vI r7), (0, vA (some o))]) (st' := [vA (some o)]) [(.aload_n 0, 1)] ⟨dX1_readRule_152, rfl⟩ rfl ?_
                refine t_callVV C 156 [] [] dX1_readRule_153 rfl (ok_X1_go hG hw) q2442 q2444 qs72 q159 q2445 hd_X1_go ⟨rfl, rfl, rfl⟩ (fun T26 hw => ?_)
                refine t_b C (pc' := 159) (L' := [(3, vI ((32 * r7) + (T17.s 219))), (2, vI (T12.s 214)), (1, vI r7), (0, vA (some o))]) (st' := [vI 61, vA (some o)]) [(.aload_n 0, 1), (.bipush 61, 2)] ⟨dX1_readRule_156, dX1_readRule_157, rfl⟩ rfl ?_
                refine t_callVI C 162 [vI 61] [] dX1_readRule_159 rfl (ok_X1_eats hG hw) q2497 q2499 qs80 q159 q2500 hd_X1_eats ⟨rfl, rfl, rfl⟩ (fun r29 T28 hw => ?_)
                refine t_if_ne C 167 165 dX1_readRule_162 rfl rfl (fun hc30 => ?_) (fun hc30 => ?_)
                · replace hw := hw.2 hc30
                  refine t_b C (pc' := 169) (L' := [(3, vI ((32 * r7) + (T17.s 219))), (2, vI (T12.s 214)), (1, vI r7), (0, vA (some o))]) (st' := [vI 0, vA (some o)]) [(.aload_n 0, 1), (.iconst 0, 1)] ⟨dX1_readRule_167, dX1_readRule_168, rfl⟩ rfl ?_
                  refine t_pI C 220 172 dX1_readRule_169 rfl rfl rfl rfl q2208 (fun _ _ _ => rfl) rfl rfl (fun T31 eT31 => ?_)
                  replace hw := hw T31 eT31
                  refine t_b C (pc' := 174) (L' := [(3, vI ((32 * r7) + (T17.s 219))), (2, vI (T12.s 214)), (1, vI r7), (0, vA (some o))]) (st' := [vI 0, vA (some o)]) [(.aload_n 0, 1), (.iconst 0, 1)] ⟨dX1_readRule_172, dX1_readRule_173, rfl⟩ rfl ?_
                  refine t_pI C 221 177 dX1_readRule_174 rfl rfl rfl rfl q2209 (fun _ _ _ => rfl) rfl rfl (fun T32 eT32 => ?_)
                  replace hw := hw T32 eT32
                  refine t_b C (pc' := 178) (L' := [(3, vI ((32 * r7) + (T17.s 219))), (2, vI (T12.s 214)), (1, vI r7), (0, vA (some o))]) (st' := [vA (some o)]) [(.aload_n 0, 1)] ⟨dX1_readRule_177, rfl⟩ rfl ?_
                  refine t_gA C 202 2 181 dX1_readRule_178 rfl rfl rfl rfl rfl q2190 (fun _ _ _ => rfl) ?_
                  refine t_b C (pc' := 186) (L' := [(3, vI ((32 * r7) + (T17.s 219))), (2, vI (T12.s 214)), (1, vI r7), (0, vA (some o))]) (st' := [vA (some o), vI (80 + ((32 * r7) + (T17.s 219))), vA (some (o + 1 + 2))]) [(.bipush 80, 2), (.iload_n 3, 1), (.iadd, 1), (.aload_n 0, 1)] ⟨dX1_readRule_181, dX1_readRule_183, dX1_readRule_184, dX1_readRule_185, rfl⟩ rfl ?_
                  refine t_gA C 202 2 189 dX1_readRule_186 rfl rfl rfl rfl rfl q2190 (fun _ _ _ => rfl) ?_
                  refine t_b C (pc' := 190) (L' := [(3, vI ((32 * r7) + (T17.s 219))), (2, vI (T12.s 214)), (1, vI r7), (0, vA (some o))]) (st' := [vI 3, vA (some (o + 1 + 2)), vI (80 + ((32 * r7) + (T17.s 219))), vA (some (o + 1 + 2))]) [(.iconst 3, 1)] ⟨dX1_readRule_189, rfl⟩ rfl ?_
                  refine t_iald C 191 dX1_readRule_190 rfl hw.1 ?_
                  replace hw := hw.2
                  refine t_iast C 192 dX1_readRule_191 rfl hw.1 (fun T33 eT33 => ?_)
                  replace hw := hw.2 T33 eT33
                  refine t_b C (pc' := 195) (L' := [(3, vI ((32 * r7) + (T17.s 219))), (2, vI (T12.s 214)), (1, vI r7), (0, vA (some o))]) (st' := [vI 0, vI r7, vA (some o)]) [(.aload_n 0, 1), (.iload_n 1, 1), (.iconst 0, 1)] ⟨dX1_readRule_192, dX1_readRule_193, dX1_readRule_194, rfl⟩ rfl ?_
                  refine t_callVI C 198 [vI r7, vI 0] [] dX1_readRule_195 rfl (ok_X1_readSum hG 9 hw) q2526 q2528 qs85 q159 q2529 hd_X1_readSum ⟨rfl, rfl, rfl⟩ (fun r35 T34 hw => ?_)
                  refine t_if_ne C 203 201 dX1_readRule_198 rfl rfl (fun hc36 => ?_) (fun hc36 => ?_)
                  · replace hw := hw.2 hc36
                    refine t_b C (pc' := 204) (L' := [(3, vI ((32 * r7) + (T17.s 219))), (2, vI (T12.s 214)), (1, vI r7), (0, vA (some o))]) (st' := [vA (some o)]) [(.aload_n 0, 1)] ⟨dX1_readRule_203, rfl⟩ rfl ?_
                    refine t_gA C 202 2 207 dX1_readRule_204 rfl rfl rfl rfl rfl q2190 (fun _ _ _ => rfl) ?_
                    refine t_b C (pc' := 213) (L' := [(3, vI ((32 * r7) + (T17.s 219))), (2, vI (T12.s 214)), (1, vI r7), (0, vA (some o))]) (st' := [vA (some o), vI (464 + ((32 * r7) + (T17.s 219))), vA (some (o + 1 + 2))]) [(.sipush 464, 3), (.iload_n 3, 1), (.iadd, 1), (.aload_n 0, 1)] ⟨dX1_readRule_207, dX1_readRule_210, dX1_readRule_211, dX1_readRule_212, rfl⟩ rfl ?_
                    refine t_gA C 202 2 216 dX1_readRule_213 rfl rfl rfl rfl rfl q2190 (fun _ _ _ => rfl) ?_
                    refine t_b C (pc' := 217) (L' := [(3, vI ((32 * r7) + (T17.s 219))), (2, vI (T12.s 214)), (1, vI r7), (0, vA (some o))]) (st' := [vI 3, vA (some (o + 1 + 2)), vI (464 + ((32 * r7) + (T17.s 219))), vA (some (o + 1 + 2))]) [(.iconst 3, 1)] ⟨dX1_readRule_216, rfl⟩ rfl ?_
                    refine t_iald C 218 dX1_readRule_217 rfl hw.1 ?_
                    replace hw := hw.2
                    refine t_iast C 219 dX1_readRule_218 rfl hw.1 (fun T37 eT37 => ?_)
                    replace hw := hw.2 T37 eT37
                    refine t_b C (pc' := 220) (L' := [(3, vI ((32 * r7) + (T17.s 219))), (2, vI (T12.s 214)), (1, vI r7), (0, vA (some o))]) (st' := [vA (some o)]) [(.aload_n 0, 1)] ⟨dX1_readRule_219, rfl⟩ rfl ?_
                    refine t_gA C 202 2 223 dX1_readRule_220 rfl rfl rfl rfl rfl q2190 (fun _ _ _ => rfl) ?_
                    refine t_b C (pc' := 229) (L' := [(3, vI ((32 * r7) + (T17.s 219))), (2, vI (T12.s 214)), (1, vI r7), (0, vA (some o))]) (st' := [vA (some o), vI (848 + ((32 * r7) + (T17.s 219))), vA (some (o + 1 + 2))]) [(.sipush 848, 3), (.iload_n 3, 1), (.iadd, 1), (.aload_n 0, 1)] ⟨dX1_readRule_223, dX1_readRule_226, dX1_readRule_227, dX1_readRule_228, rfl⟩ rfl ?_
                    refine t_gI C 221 232 dX1_readRule_229 rfl rfl rfl q2209 (fun _ _ _ => rfl) ?_
                    refine t_iast C 233 dX1_readRule_232 rfl hw.1 (fun T38 eT38 => ?_)
                    replace hw := hw.2 T38 eT38
                    refine t_b C (pc' := 234) (L' := [(3, vI ((32 * r7) + (T17.s 219))), (2, vI (T12.s 214)), (1, vI r7), (0, vA (some o))]) (st' := [vA (some o)]) [(.aload_n 0, 1)] ⟨dX1_readRule_233, rfl⟩ rfl ?_
                    refine t_gA C 202 2 237 dX1_readRule_234 rfl rfl rfl rfl rfl q2190 (fun _ _ _ => rfl) ?_
                    refine t_b C (pc' := 243) (L' := [(3, vI ((32 * r7) + (T17.s 219))), (2, vI (T12.s 214)), (1, vI r7), (0, vA (some o))]) (st' := [vI 1, vI (1232 + ((32 * r7) + (T17.s 219))), vA (some (o + 1 + 2))]) [(.sipush 1232, 3), (.iload_n 3, 1), (.iadd, 1), (.iconst 1, 1)] ⟨dX1_readRule_237, dX1_readRule_240, dX1_readRule_241, dX1_readRule_242, rfl⟩ rfl ?_
                    refine t_iast C 244 dX1_readRule_243 rfl hw.1 (fun T39 eT39 => ?_)
                    replace hw := hw.2 T39 eT39
                    refine t_b C (pc' := 245) (L' := [(3, vI ((32 * r7) + (T17.s 219))), (2, vI (T12.s 214)), (1, vI r7), (0, vA (some o))]) (st' := [vA (some o)]) [(.aload_n 0, 1)] ⟨dX1_readRule_244, rfl⟩ rfl ?_
                    refine t_gA C 202 2 248 dX1_readRule_245 rfl rfl rfl rfl rfl q2190 (fun _ _ _ => rfl) ?_
                    refine t_b C (pc' := 250) (L' := [(3, vI ((32 * r7) + (T17.s 219))), (2, vI (T12.s 214)), (1, vI r7), (0, vA (some o))]) (st' := [vI 2, vA (some (o + 1 + 2)), vI 2, vA (some (o + 1 + 2))]) [(.iconst 2, 1), (.dup2, 1)] ⟨dX1_readRule_248, dX1_readRule_249, rfl⟩ rfl ?_
                    refine t_iald C 251 dX1_readRule_250 rfl hw.1 ?_
                    replace hw := hw.2
                    refine t_b C (pc' := 253) (L' := [(3, vI ((32 * r7) + (T17.s 219))), (2, vI (T12.s 214)), (1, vI r7), (0, vA (some o))]) (st' := [vI ((T39.a 2 (ni 2)) + 1), vI 2, vA (some (o + 1 + 2))]) [(.iconst 1, 1), (.iadd, 1)] ⟨dX1_readRule_251, dX1_readRule_252, rfl⟩ rfl ?_
                    refine t_iast C 254 dX1_readRule_253 rfl hw.1 (fun T40 eT40 => ?_)
                    replace hw := hw.2 T40 eT40
                    refine t_b C (pc' := 255) (L' := [(3, vI ((32 * r7) + (T17.s 219))), (2, vI (T12.s 214)), (1, vI r7), (0, vA (some o))]) (st' := [vI 1]) [(.iconst 1, 1)] ⟨dX1_readRule_254, rfl⟩ rfl ?_
                    exact t_zret C dX1_readRule_255 rfl ⟨_, rfl, hw⟩
                  · replace hw := hw.1 hc36
                    refine t_b C (pc' := 202) (L' := [(3, vI ((32 * r7) + (T17.s 219))), (2, vI (T12.s 214)), (1, vI r7), (0, vA (some o))]) (st' := [vI 0]) [(.iconst 0, 1)] ⟨dX1_readRule_201, rfl⟩ rfl ?_
                    exact t_zret C dX1_readRule_202 rfl ⟨_, rfl, hw⟩
                · replace hw := hw.1 hc30
                  refine t_b C (pc' := 166) (L' := [(3, vI ((32 * r7) + (T17.s 219))), (2, vI (T12.s 214)), (1, vI r7), (0, vA (some o))]) (st' := [vI 0]) [(.iconst 0, 1)] ⟨dX1_readRule_165, rfl⟩ rfl ?_
                  exact t_zret C dX1_readRule_166 rfl ⟨_, rfl, hw⟩
              · replace hw := hw.1 hc25
                refine t_b C (pc' := 148) (L' := [(3, vI ((32 * r7) + (T17.s 219))), (2, vI (T12.s 214)), (1, vI r7), (0, vA (some o))]) (st' := [vI 5, vA (some o)]) [(.aload_n 0, 1), (.iconst 5, 1)] ⟨dX1_readRule_146, dX1_readRule_147, rfl⟩ rfl ?_
                refine t_callVI C 151 [vI 5] [] dX1_readRule_148 rfl (ok_X1_bad hG hw) q2479 q2481 qs77 q159 q2482 hd_X1_bad ⟨rfl, rfl, rfl⟩ (fun r42 T41 hw => ?_)
                exact t_zret C dX1_readRule_151 (bz_n hw.1) ⟨_, rfl, hw.2⟩
          · replace hw := hw.1 hc19
            refine t_b C (pc' := 106) (L' := [(2, vI (T12.s 214)), (1, vI r7), (0, vA (some o))]) (st' := [vI 0]) [(.iconst 0, 1)] ⟨dX1_readRule_105, rfl⟩ rfl ?_
            exact t_zret C dX1_readRule_106 rfl ⟨_, rfl, hw⟩
        · replace hw := hw.1 hc14
          refine t_b C (pc' := 83) (L' := [(1, vI r7), (0, vA (some o))]) (st' := [vI 3, vA (some o)]) [(.aload_n 0, 1), (.iconst 3, 1)] ⟨dX1_readRule_81, dX1_readRule_82, rfl⟩ rfl ?_
          refine t_callVI C 86 [vI 3] [] dX1_readRule_83 rfl (ok_X1_bad hG hw) q2479 q2481 qs77 q159 q2482 hd_X1_bad ⟨rfl, rfl, rfl⟩ (fun r44 T43 hw => ?_)
          exact t_zret C dX1_readRule_86 (bz_n hw.1) ⟨_, rfl, hw.2⟩
      · replace hw := hw.2 hc11
        refine t_b C (pc' := 62) (L' := [(1, vI r7), (0, vA (some o))]) (st' := [vI 2, vA (some o)]) [(.aload_n 0, 1), (.iconst 2, 1)] ⟨dX1_readRule_60, dX1_readRule_61, rfl⟩ rfl ?_
        refine t_callVI C 65 [vI 2] [] dX1_readRule_62 rfl (ok_X1_bad hG hw) q2479 q2481 qs77 q159 q2482 hd_X1_bad ⟨rfl, rfl, rfl⟩ (fun r46 T45 hw => ?_)
        exact t_zret C dX1_readRule_65 (bz_n hw.1) ⟨_, rfl, hw.2⟩
    · replace hw := hw.1 hc8
      refine t_b C (pc' := 44) (L' := [(1, vI r7), (0, vA (some o))]) (st' := [vI 3, vA (some o)]) [(.aload_n 0, 1), (.iconst 3, 1)] ⟨dX1_readRule_42, dX1_readRule_43, rfl⟩ rfl ?_
      refine t_callVI C 47 [vI 3] [] dX1_readRule_44 rfl (ok_X1_bad hG hw) q2479 q2481 qs77 q159 q2482 hd_X1_bad ⟨rfl, rfl, rfl⟩ (fun r48 T47 hw => ?_)
      exact t_zret C dX1_readRule_47 (bz_n hw.1) ⟨_, rfl, hw.2⟩
  · replace hw := hw.1 hc5
    refine t_b C (pc' := 13) (L' := [(0, vA (some o))]) (st' := [vI 2, vA (some o)]) [(.aload_n 0, 1), (.iconst 2, 1)] ⟨dX1_readRule_11, dX1_readRule_12, rfl⟩ rfl ?_
    refine t_callVI C 16 [vI 2] [] dX1_readRule_13 rfl (ok_X1_bad hG hw) q2479 q2481 qs77 q159 q2482 hd_X1_bad ⟨rfl, rfl, rfl⟩ (fun r50 T49 hw => ?_)
    exact t_zret C dX1_readRule_16 (bz_n hw.1) ⟨_, rfl, hw.2⟩
def wp_X1_readAttributes (p0 : Int32) (p1 : Int32) (T : TS) (Q : Int32 → TS → Prop) : Prop :=
  tlp (σ := Unit) (fun s1 T2 k1 =>
  wp_X1_isName  T2 fun r4 T3 =>
  ((r4 = 0 →
  wp_X1_bad 2 T3 fun r26 T25 =>
  bz r26 ∧ Q r26 T25) ∧ (¬ r4 = 0 →
  wp_X1_attributesIn 2 p0 T3 fun r7 T6 =>
  wp_X1_findIn 4 (20 + (8 * p0)) r7 (T6.w 218) T6 fun r9 T8 =>
  ((r9 = (-1) →
  tix 2 40 (p1 + p0) ∧
  (((T8.a 2 (ni (p1 + p0))) = 4 →
  wp_X1_bad 6 T8 fun r22 T21 =>
  bz r22 ∧ Q r22 T21) ∧ (¬ (T8.a 2 (ni (p1 + p0))) = 4 →
  wp_X1_attributesIn 2 p0 T8 fun r13 T12 =>
  tix 4 43 ((20 + (8 * p0)) + r13) ∧
  ∀ T14, T14 = T12.sl 4 (ni ((20 + (8 * p0)) + r13)) (T12.w 218) →
  tix 2 40 (p1 + p0) ∧
  tix 2 40 (p1 + p0) ∧
  ∀ T15, T15 = T14.sa 2 (ni (p1 + p0)) ((T14.a 2 (ni (p1 + p0))) + 1) →
  wp_X1_go  T15 fun T16 =>
  wp_X1_isName  T16 fun r19 T18 =>
  ((r19 = 0 →
  Q 1 T18) ∧ (¬ r19 = 0 →
  k1 () T18))))) ∧ (¬ r9 = (-1) →
  wp_X1_bad 4 T8 fun r24 T23 =>
  bz r24 ∧ Q r24 T23))))) () T
theorem hd_X1_readAttributes : yX1_readAttributes.cls = RX1 ∧ yX1_readAttributes.cls ≠ "java/lang/invoke/MethodHandle" ∧ yX1_readAttributes.cls ≠ "java/lang/invoke/VarHandle" ∧ (parseMethodDescriptor yX1_readAttributes.desc).map (fun d => d.parameters.length) = some 2 := by decide +kernel
theorem ok_X1_readAttributes {l : Launch} {D : va_G} {s0 : S0} (hG : G0 D s0) {o : Nat} {p0 : Int32} {p1 : Int32} {T : TS} {Q : Int32 → TS → Prop} (hw : wp_X1_readAttributes p0 p1 T Q) : OKt l D s0 o yX1_readAttributes cX1_readAttributes 3 (some .boolean) 3 68 [vA (some o), vI p0, vI p1] T (TI Q) := by
  refine t_met hG rfl rfl (L0 := [(0, vA (some o)), (1, vI p0), (2, vI p1)]) rfl rfl ?_
  intro h K C
  unfold wp_X1_readAttributes at hw
  obtain ⟨I1, ⟨n1, hI1⟩, hB1⟩ := tlp.out hw
  refine t_sub C (L' := [(0, vA (some o)), (1, vI p0), (2, vI p1)]) [0, 1, 2] rfl ?_
  have key1 : ∀ (n : Nat) (s1 : Unit) (T2 : TS), I1 n s1 T2 → K 0 [(0, vA (some o)), (1, vI p0), (2, vI p1)] [] T2 := by
    intro n
    induction n using Nat.strongRecOn with
    | ind n ih1 =>
      intro s1 T2 hI
      replace hw := hB1 n s1 T2 hI
      refine t_b C (pc' := 1) (L' := [(0, vA (some o)), (1, vI p0), (2, vI p1)]) (st' := [vA (some o)]) [(.aload_n 0, 1)] ⟨dX1_readAttributes_0, rfl⟩ rfl ?_
      refine t_callVI C 4 [] [] dX1_readAttributes_1 rfl (ok_X1_isName hG hw) q2483 q2485 qs78 q159 q2486 hd_X1_isName ⟨rfl, rfl, rfl⟩ (fun r4 T3 hw => ?_)
      refine t_if_ne C 13 7 dX1_readAttributes_4 rfl rfl (fun hc5 => ?_) (fun hc5 => ?_)
      · replace hw := hw.2 hc5
        refine t_b C (pc' := 14) (L' := [(0, vA (some o)), (1, vI p0), (2, vI p1)]) (st' := [vA (some o)]) [(.aload_n 0, 1)] ⟨dX1_readAttributes_13, rfl⟩ rfl ?_
        refine t_gA C 204 4 17 dX1_readAttributes_14 rfl rfl rfl rfl rfl q2192 (fun _ _ _ => rfl) ?_
        refine t_b C (pc' := 25) (L' := [(0, vA (some o)), (1, vI p0), (2, vI p1)]) (st' := [vA (some o), vI (20 + (8 * p0)), vA (some (o + 1 + 4))]) [(.bipush 20, 2), (.bipush 8, 2), (.iload_n 1, 1), (.imul, 1), (.iadd, 1), (.aload_n 0, 1)] ⟨dX1_readAttributes_17, dX1_readAttributes_19, dX1_readAttributes_21, dX1_readAttributes_22, dX1_readAttributes_23, dX1_readAttributes_24, rfl⟩ rfl ?_
        refine t_gA C 202 2 28 dX1_readAttributes_25 rfl rfl rfl rfl rfl q2190 (fun _ _ _ => rfl) ?_
        refine t_b C (pc' := 29) (L' := [(0, vA (some o)), (1, vI p0), (2, vI p1)]) (st' := [vI p0, vA (some (o + 1 + 2)), vI (20 + (8 * p0)), vA (some (o + 1 + 4))]) [(.iload_n 1, 1)] ⟨dX1_readAttributes_28, rfl⟩ rfl ?_
        refine t_callSI C 32 [vA (some (o + 1 + 2)), vI p0] [vI (20 + (8 * p0)), vA (some (o + 1 + 4))] dX1_readAttributes_29 rfl (ok_X1_attributesIn hG hw) q2494 q2495 q159 q2496 hd_X1_attributesIn ⟨rfl, rfl, rfl⟩ (fun r7 T6 hw => ?_)
        refine t_b C (pc' := 33) (L' := [(0, vA (some o)), (1, vI p0), (2, vI p1)]) (st' := [vA (some o), vI r7, vI (20 + (8 * p0)), vA (some (o + 1 + 4))]) [(.aload_n 0, 1)] ⟨dX1_readAttributes_32, rfl⟩ rfl ?_
        refine t_gJ C 218 36 dX1_readAttributes_33 rfl rfl rfl q2206 (fun _ _ _ => rfl) ?_
        refine t_callSI C 39 [vA (some (o + 1 + 4)), vI (20 + (8 * p0)), vI r7, vJ (T6.w 218)] [] dX1_readAttributes_36 rfl (ok_X1_findIn hG hw) q2487 q2488 q159 q2489 hd_X1_findIn ⟨rfl, rfl, rfl⟩ (fun r9 T8 hw => ?_)
        refine t_b C (pc' := 40) (L' := [(0, vA (some o)), (1, vI p0), (2, vI p1)]) (st' := [vI (-1), vI r9]) [(.iconst (-1), 1)] ⟨dX1_readAttributes_39, rfl⟩ rfl ?_
        refine t_icmp_eq C 49 43 dX1_readAttributes_40 rfl rfl (fun hc10 => ?_) (fun hc10 => ?_)
        · replace hw := hw.1 hc10
          refine t_b C (pc' := 50) (L' := [(0, vA (some o)), (1, vI p0), (2, vI p1)]) (st' := [vA (some o)]) [(.aload_n 0, 1)] ⟨dX1_readAttributes_49, rfl⟩ rfl ?_
          refine t_gA C 202 2 53 dX1_readAttributes_50 rfl rfl rfl rfl rfl q2190 (fun _ _ _ => rfl) ?_
          refine t_b C (pc' := 56) (L' := [(0, vA (some o)), (1, vI p0), (2, vI p1)]) (st' := [vI (p1 + p0), vA (some (o + 1 + 2))]) [(.iload_n 2, 1), (.iload_n 1, 1), (.iadd, 1)] ⟨dX1_readAttributes_53, dX1_readAttributes_54, dX1_readAttributes_55, rfl⟩ rfl ?_
          refine t_iald C 57 dX1_readAttributes_56 rfl hw.1 ?_
          replace hw := hw.2
          refine t_b C (pc' := 58) (L' := [(0, vA (some o)), (1, vI p0), (2, vI p1)]) (st' := [vI 4, vI (T8.a 2 (ni (p1 + p0)))]) [(.iconst 4, 1)] ⟨dX1_readAttributes_57, rfl⟩ rfl ?_
          refine t_icmp_ne C 68 61 dX1_readAttributes_58 rfl rfl (fun hc11 => ?_) (fun hc11 => ?_)
          · replace hw := hw.2 hc11
            refine t_b C (pc' := 69) (L' := [(0, vA (some o)), (1, vI p0), (2, vI p1)]) (st' := [vA (some o)]) [(.aload_n 0, 1)] ⟨dX1_readAttributes_68, rfl⟩ rfl ?_
            refine t_gA C 204 4 72 dX1_readAttributes_69 rfl rfl rfl rfl rfl q2192 (fun _ _ _ => rfl) ?_
            refine t_b C (pc' := 80) (L' := [(0, vA (some o)), (1, vI p0), (2, vI p1)]) (st' := [vA (some o), vI (20 + (8 * p0)), vA (some (o + 1 + 4))]) [(.bipush 20, 2), (.bipush 8, 2), (.iload_n 1, 1), (.imul, 1), (.iadd, 1), (.aload_n 0, 1)] ⟨dX1_readAttributes_72, dX1_readAttributes_74, dX1_readAttributes_76, dX1_readAttributes_77, dX1_readAttributes_78, dX1_readAttributes_79, rfl⟩ rfl ?_
            refine t_gA C 202 2 83 dX1_readAttributes_80 rfl rfl rfl rfl rfl q2190 (fun _ _ _ => rfl) ?_
            refine t_b C (pc' := 84) (L' := [(0, vA (some o)), (1, vI p0), (2, vI p1)]) (st' := [vI p0, vA (some (o + 1 + 2)), vI (20 + (8 * p0)), vA (some (o + 1 + 4))]) [(.iload_n 1, 1)] ⟨dX1_readAttributes_83, rfl⟩ rfl ?_
            refine t_callSI C 87 [vA (some (o + 1 + 2)), vI p0] [vI (20 + (8 * p0)), vA (some (o + 1 + 4))] dX1_readAttributes_84 rfl (ok_X1_attributesIn hG hw) q2494 q2495 q159 q2496 hd_X1_attributesIn ⟨rfl, rfl, rfl⟩ (fun r13 T12 hw => ?_)
            refine t_b C (pc' := 89) (L' := [(0, vA (some o)), (1, vI p0), (2, vI p1)]) (st' := [vA (some o), vI ((20 + (8 * p0)) + r13), vA (some (o + 1 + 4))]) [(.iadd, 1), (.aload_n 0, 1)] ⟨dX1_readAttributes_87, dX1_readAttributes_88, rfl⟩ rfl ?_
            refine t_gJ C 218 92 dX1_readAttributes_89 rfl rfl rfl q2206 (fun _ _ _ => rfl) ?_
            refine t_last C 93 dX1_readAttributes_92 rfl hw.1 (fun T14 eT14 => ?_)
            replace hw := hw.2 T14 eT14
            refine t_b C (pc' := 94) (L' := [(0, vA (some o)), (1, vI p0), (2, vI p1)]) (st' := [vA (some o)]) [(.aload_n 0, 1)] ⟨dX1_readAttributes_93, rfl⟩ rfl ?_
            refine t_gA C 202 2 97 dX1_readAttributes_94 rfl rfl rfl rfl rfl q2190 (fun _ _ _ => rfl) ?_
            refine t_b C (pc' := 101) (L' := [(0, vA (some o)), (1, vI p0), (2, vI p1)]) (st' := [vI (p1 + p0), vA (some (o + 1 + 2)), vI (p1 + p0), vA (some (o + 1 + 2))]) [(.iload_n 2, 1), (.iload_n 1, 1), (.iadd, 1), (.dup2, 1)] ⟨dX1_readAttributes_97, dX1_readAttributes_98, dX1_readAttributes_99, dX1_readAttributes_100, rfl⟩ rfl ?_
            refine t_iald C 102 dX1_readAttributes_101 rfl hw.1 ?_
            replace hw := hw.2
            refine t_b C (pc' := 104) (L' := [(0, vA (some o)), (1, vI p0), (2, vI p1)]) (st' := [vI ((T14.a 2 (ni (p1 + p0))) + 1), vI (p1 + p0), vA (some (o + 1 + 2))]) [(.iconst 1, 1), (.iadd, 1)] ⟨dX1_readAttributes_102, dX1_readAttributes_103, rfl⟩ rfl ?_
            refine t_iast C 105 dX1_readAttributes_104 rfl hw.1 (fun T15 eT15 => ?_)
            replace hw := hw.2 T15 eT15
            refine t_b C (pc' := 106) (L' := [(0, vA (some o)), (1, vI p0), (2, vI p1)]) (st' := [vA (some o)]) [(.aload_n 0, 1)] ⟨dX1_readAttributes_105, rfl⟩ rfl ?_
            refine t_callVV C 109 [] [] dX1_readAttributes_106 rfl (ok_X1_go hG hw) q2442 q2444 qs72 q159 q2445 hd_X1_go ⟨rfl, rfl, rfl⟩ (fun T16 hw => ?_)
            refine t_b C (pc' := 110) (L' := [(0, vA (some o)), (1, vI p0), (2, vI p1)]) (st' := [vA (some o)]) [(.aload_n 0, 1)] ⟨dX1_readAttributes_109, rfl⟩ rfl ?_
            refine t_callVI C 113 [] [] dX1_readAttributes_110 rfl (ok_X1_isName hG hw) q2483 q2485 qs78 q159 q2486 hd_X1_isName ⟨rfl, rfl, rfl⟩ (fun r19 T18 hw => ?_)
            refine t_if_ne C 0 116 dX1_readAttributes_113 rfl rfl (fun hc20 => ?_) (fun hc20 => ?_)
            · replace hw := hw.2 hc20
              refine t_sub C (L' := [(0, vA (some o)), (1, vI p0), (2, vI p1)]) [0, 1, 2] rfl ?_
              obtain ⟨m9, hm9, hw⟩ := hw
              exact ih1 m9 hm9 () T18 hw
            · replace hw := hw.1 hc20
              refine t_b C (pc' := 117) (L' := [(0, vA (some o)), (1, vI p0), (2, vI p1)]) (st' := [vI 1]) [(.iconst 1, 1)] ⟨dX1_readAttributes_116, rfl⟩ rfl ?_
              exact t_zret C dX1_readAttributes_117 rfl ⟨_, rfl, hw⟩
          · replace hw := hw.1 hc11
            refine t_b C (pc' := 64) (L' := [(0, vA (some o)), (1, vI p0), (2, vI p1)]) (st' := [vI 6, vA (some o)]) [(.aload_n 0, 1), (.bipush 6, 2)] ⟨dX1_readAttributes_61, dX1_readAttributes_62, rfl⟩ rfl ?_
            refine t_callVI C 67 [vI 6] [] dX1_readAttributes_64 rfl (ok_X1_bad hG hw) q2479 q2481 qs77 q159 q2482 hd_X1_bad ⟨rfl, rfl, rfl⟩ (fun r22 T21 hw => ?_)
            exact t_zret C dX1_readAttributes_67 (bz_n hw.1) ⟨_, rfl, hw.2⟩
        · replace hw := hw.2 hc10
          refine t_b C (pc' := 45) (L' := [(0, vA (some o)), (1, vI p0), (2, vI p1)]) (st' := [vI 4, vA (some o)]) [(.aload_n 0, 1), (.iconst 4, 1)] ⟨dX1_readAttributes_43, dX1_readAttributes_44, rfl⟩ rfl ?_
          refine t_callVI C 48 [vI 4] [] dX1_readAttributes_45 rfl (ok_X1_bad hG hw) q2479 q2481 qs77 q159 q2482 hd_X1_bad ⟨rfl, rfl, rfl⟩ (fun r24 T23 hw => ?_)
          exact t_zret C dX1_readAttributes_48 (bz_n hw.1) ⟨_, rfl, hw.2⟩
      · replace hw := hw.1 hc5
        refine t_b C (pc' := 9) (L' := [(0, vA (some o)), (1, vI p0), (2, vI p1)]) (st' := [vI 2, vA (some o)]) [(.aload_n 0, 1), (.iconst 2, 1)] ⟨dX1_readAttributes_7, dX1_readAttributes_8, rfl⟩ rfl ?_
        refine t_callVI C 12 [vI 2] [] dX1_readAttributes_9 rfl (ok_X1_bad hG hw) q2479 q2481 qs77 q159 q2482 hd_X1_bad ⟨rfl, rfl, rfl⟩ (fun r26 T25 hw => ?_)
        exact t_zret C dX1_readAttributes_12 (bz_n hw.1) ⟨_, rfl, hw.2⟩
  exact key1 n1 () T hI1
def wp_X1_readSymbol  (T : TS) (Q : Int32 → TS → Prop) : Prop :=
  tix 2 40 0 ∧
  (((T.a 2 (ni 0)) = 8 →
  wp_X1_bad 6 T fun r48 T47 =>
  bz r48 ∧ Q r48 T47) ∧ (¬ (T.a 2 (ni 0)) = 8 →
  wp_X1_go  T fun T2 =>
  wp_X1_isName  T2 fun r5 T4 =>
  ((r5 = 0 →
  wp_X1_bad 2 T4 fun r46 T45 =>
  bz r46 ∧ Q r46 T45) ∧ (¬ r5 = 0 →
  wp_X1_findIn 4 0 (T.a 2 (ni 0)) (T4.w 218) T4 fun r8 T7 =>
  ((r8 = (-1) →
  tix 4 43 (0 + (T.a 2 (ni 0))) ∧
  ∀ T10, T10 = T7.sl 4 (ni (0 + (T.a 2 (ni 0)))) (T7.w 218) →
  tix 2 40 (4 + (T.a 2 (ni 0))) ∧
  ∀ T11, T11 = T10.sa 2 (ni (4 + (T.a 2 (ni 0)))) 0 →
  tix 2 40 (12 + (T.a 2 (ni 0))) ∧
  ∀ T12, T12 = T11.sa 2 (ni (12 + (T.a 2 (ni 0)))) 0 →
  wp_X1_go  T12 fun T13 =>
  wp_X1_isWord 3 T13 fun r16 T15 =>
  ((r16 = 0 →
  wp_X1_isWord 4 T15 fun r19 T18 =>
  ((r19 = 0 →
  tix 2 40 0 ∧
  tix 2 40 0 ∧
  ∀ T21, T21 = T18.sa 2 (ni 0) ((T18.a 2 (ni 0)) + 1) →
  Q 1 T21) ∧ (¬ r19 = 0 →
  wp_X1_go  T18 fun T22 =>
  wp_X1_readAttributes (T.a 2 (ni 0)) 12 T22 fun r25 T24 =>
  ((r25 = 0 →
  Q 0 T24) ∧ (¬ r25 = 0 →
  tix 2 40 0 ∧
  tix 2 40 0 ∧
  ∀ T27, T27 = T24.sa 2 (ni 0) ((T24.a 2 (ni 0)) + 1) →
  Q 1 T27))))) ∧ (¬ r16 = 0 →
  wp_X1_go  T15 fun T28 =>
  wp_X1_readAttributes (T.a 2 (ni 0)) 4 T28 fun r31 T30 =>
  ((r31 = 0 →
  Q 0 T30) ∧ (¬ r31 = 0 →
  wp_X1_isWord 4 T30 fun r34 T33 =>
  ((r34 = 0 →
  tix 2 40 0 ∧
  tix 2 40 0 ∧
  ∀ T36, T36 = T33.sa 2 (ni 0) ((T33.a 2 (ni 0)) + 1) →
  Q 1 T36) ∧ (¬ r34 = 0 →
  wp_X1_go  T33 fun T37 =>
  wp_X1_readAttributes (T.a 2 (ni 0)) 12 T37 fun r40 T39 =>
  ((r40 = 0 →
  Q 0 T39) ∧ (¬ r40 = 0 →
  tix 2 40 0 ∧
  tix 2 40 0 ∧
  ∀ T42, T42 = T39.sa 2 (ni 0) ((T39.a 2 (ni 0)) + 1) →
  Q 1 T42))))))))) ∧ (¬ r8 = (-1) →
  wp_X1_bad 4 T7 fun r44 T43 =>
  bz r44 ∧ Q r44 T43))))))
theorem hd_X1_readSymbol : yX1_readSymbol.cls = RX1 ∧ yX1_readSymbol.cls ≠ "java/lang/invoke/MethodHandle" ∧ yX1_readSymbol.cls ≠ "java/lang/invoke/VarHandle" ∧ (parseMethodDescriptor yX1_readSymbol.desc).map (fun d => d.parameters.length) = some 0 := by decide +kernel
theorem ok_X1_readSymbol {l : Launch} {D : va_G} {s0 : S0} (hG : G0 D s0) {o : Nat}  {T : TS} {Q : Int32 → TS → Prop} (hw : wp_X1_readSymbol  T Q) : OKt l D s0 o yX1_readSymbol cX1_readSymbol 2 (some .boolean) 4 90 [vA (some o)] T (TI Q) := by
  refine t_met hG rfl rfl (L0 := [(0, vA (some o))]) rfl rfl ?_
  intro h K C
  unfold wp_X1_readSymbol at hw
  refine t_b C (pc' := 1) (L' := [(0, vA (some o))]) (st' := [vA (some o)]) [(.aload_n 0, 1)] ⟨dX1_readSymbol_0, rfl⟩ rfl ?_
  refine t_gA C 202 2 4 dX1_readSymbol_1 rfl rfl rfl rfl rfl q2190 (fun _ _ _ => rfl) ?_
  refine t_b C (pc' := 5) (L' := [(0, vA (some o))]) (st' := [vI 0, vA (some (o + 1 + 2))]) [(.iconst 0, 1)] ⟨dX1_readSymbol_4, rfl⟩ rfl ?_
  refine t_iald C 6 dX1_readSymbol_5 rfl hw.1 ?_
  replace hw := hw.2
  refine t_b C (pc' := 10) (L' := [(1, vI (T.a 2 (ni 0))), (0, vA (some o))]) (st' := [vI 8, vI (T.a 2 (ni 0))]) [(.istore_n 1, 1), (.iload_n 1, 1), (.bipush 8, 2)] ⟨dX1_readSymbol_6, dX1_readSymbol_7, dX1_readSymbol_8, rfl⟩ rfl ?_
  refine t_icmp_ne C 20 13 dX1_readSymbol_10 rfl rfl (fun hc1 => ?_) (fun hc1 => ?_)
  · replace hw := hw.2 hc1
    refine t_b C (pc' := 21) (L' := [(1, vI (T.a 2 (ni 0))), (0, vA (some o))]) (st' := [vA (some o)]) [(.aload_n 0, 1)] ⟨dX1_readSymbol_20, rfl⟩ rfl ?_
    refine t_callVV C 24 [] [] dX1_readSymbol_21 rfl (ok_X1_go hG hw) q2442 q2444 qs72 q159 q2445 hd_X1_go ⟨rfl, rfl, rfl⟩ (fun T2 hw => ?_)
    refine t_b C (pc' := 25) (L' := [(1, vI (T.a 2 (ni 0))), (0, vA (some o))]) (st' := [vA (some o)]) [(.aload_n 0, 1)] ⟨dX1_readSymbol_24, rfl⟩ rfl ?_
    refine t_callVI C 28 [] [] dX1_readSymbol_25 rfl (ok_X1_isName hG hw) q2483 q2485 qs78 q159 q2486 hd_X1_isName ⟨rfl, rfl, rfl⟩ (fun r5 T4 hw => ?_)
    refine t_if_ne C 37 31 dX1_readSymbol_28 rfl rfl (fun hc6 => ?_) (fun hc6 => ?_)
    · replace hw := hw.2 hc6
      refine t_b C (pc' := 38) (L' := [(1, vI (T.a 2 (ni 0))), (0, vA (some o))]) (st' := [vA (some o)]) [(.aload_n 0, 1)] ⟨dX1_readSymbol_37, rfl⟩ rfl ?_
      refine t_gA C 204 4 41 dX1_readSymbol_38 rfl rfl rfl rfl rfl q2192 (fun _ _ _ => rfl) ?_
      refine t_b C (pc' := 44) (L' := [(1, vI (T.a 2 (ni 0))), (0, vA (some o))]) (st' := [vA (some o), vI (T.a 2 (ni 0)), vI 0, vA (some (o + 1 + 4))]) [(.iconst 0, 1), (.iload_n 1, 1), (.aload_n 0, 1)] ⟨dX1_readSymbol_41, dX1_readSymbol_42, dX1_readSymbol_43, rfl⟩ rfl ?_
      refine t_gJ C 218 47 dX1_readSymbol_44 rfl rfl rfl q2206 (fun _ _ _ => rfl) ?_
      refine t_callSI C 50 [vA (some (o + 1 + 4)), vI 0, vI (T.a 2 (ni 0)), vJ (T4.w 218)] [] dX1_readSymbol_47 rfl (ok_X1_findIn hG hw) q2487 q2488 q159 q2489 hd_X1_findIn ⟨rfl, rfl, rfl⟩ (fun r8 T7 hw => ?_)
      refine t_b C (pc' := 51) (L' := [(1, vI (T.a 2 (ni 0))), (0, vA (some o))]) (st' := [vI (-1), vI r8]) [(.iconst (-1), 1)] ⟨dX1_readSymbol_50, rfl⟩ rfl ?_
      refine t_icmp_eq C 60 54 dX1_readSymbol_51 rfl rfl (fun hc9 => ?_) (fun hc9 => ?_)
      · replace hw := hw.1 hc9
        refine t_b C (pc' := 61) (L' := [(1, vI (T.a 2 (ni 0))), (0, vA (some o))]) (st' := [vA (some o)]) [(.aload_n 0, 1)] ⟨dX1_readSymbol_60, rfl⟩ rfl ?_
        refine t_gA C 204 4 64 dX1_readSymbol_61 rfl rfl rfl rfl rfl q2192 (fun _ _ _ => rfl) ?_
        refine t_b C (pc' := 68) (L' := [(1, vI (T.a 2 (ni 0))), (0, vA (some o))]) (st' := [vA (some o), vI (0 + (T.a 2 (ni 0))), vA (some (o + 1 + 4))]) [(.iconst 0, 1), (.iload_n 1, 1), (.iadd, 1), (.aload_n 0, 1)] ⟨dX1_readSymbol_64, dX1_readSymbol_65, dX1_readSymbol_66, dX1_readSymbol_67, rfl⟩ rfl ?_
        refine t_gJ C 218 71 dX1_readSymbol_68 rfl rfl rfl q2206 (fun _ _ _ => rfl) ?_
        refine t_last C 72 dX1_readSymbol_71 rfl hw.1 (fun T10 eT10 => ?_)
        replace hw := hw.2 T10 eT10
        refine t_b C (pc' := 73) (L' := [(1, vI (T.a 2 (ni 0))), (0, vA (some o))]) (st' := [vA (some o)]) [(.aload_n 0, 1)] ⟨dX1_readSymbol_72, rfl⟩ rfl ?_
        refine t_gA C 202 2 76 dX1_readSymbol_73 rfl rfl rfl rfl rfl q2190 (fun _ _ _ => rfl) ?_
        refine t_b C (pc' := 80) (L' := [(1, vI (T.a 2 (ni 0))), (0, vA (some o))]) (st' := [vI 0, vI (4 + (T.a 2 (ni 0))), vA (some (o + 1 + 2))]) [(.iconst 4, 1), (.iload_n 1, 1), (.iadd, 1), (.iconst 0, 1)] ⟨dX1_readSymbol_76, dX1_readSymbol_77, dX1_readSymbol_78, dX1_readSymbol_79, rfl⟩ rfl ?_
        refine t_iast C 81 dX1_readSymbol_80 rfl hw.1 (fun T11 eT11 => ?_)
        replace hw := hw.2 T11 eT11
        refine t_b C (pc' := 82) (L' := [(1, vI (T.a 2 (ni 0))), (0, vA (some o))]) (st' := [vA (some o)]) [(.aload_n 0, 1)] ⟨dX1_readSymbol_81, rfl⟩ rfl ?_
        refine t_gA C 202 2 85 dX1_readSymbol_82 rfl rfl rfl rfl rfl q2190 (fun _ _ _ => rfl) ?_
        refine t_b C (pc' := 90) (L' := [(1, vI (T.a 2 (ni 0))), (0, vA (some o))]) (st' := [vI 0, vI (12 + (T.a 2 (ni 0))), vA (some (o + 1 + 2))]) [(.bipush 12, 2), (.iload_n 1, 1), (.iadd, 1), (.iconst 0, 1)] ⟨dX1_readSymbol_85, dX1_readSymbol_87, dX1_readSymbol_88, dX1_readSymbol_89, rfl⟩ rfl ?_
        refine t_iast C 91 dX1_readSymbol_90 rfl hw.1 (fun T12 eT12 => ?_)
        replace hw := hw.2 T12 eT12
        refine t_b C (pc' := 92) (L' := [(1, vI (T.a 2 (ni 0))), (0, vA (some o))]) (st' := [vA (some o)]) [(.aload_n 0, 1)] ⟨dX1_readSymbol_91, rfl⟩ rfl ?_
        refine t_callVV C 95 [] [] dX1_readSymbol_92 rfl (ok_X1_go hG hw) q2442 q2444 qs72 q159 q2445 hd_X1_go ⟨rfl, rfl, rfl⟩ (fun T13 hw => ?_)
        refine t_b C (pc' := 97) (L' := [(1, vI (T.a 2 (ni 0))), (0, vA (some o))]) (st' := [vI 3, vA (some o)]) [(.aload_n 0, 1), (.iconst 3, 1)] ⟨dX1_readSymbol_95, dX1_readSymbol_96, rfl⟩ rfl ?_
        refine t_callVI C 100 [vI 3] [] dX1_readSymbol_97 rfl (ok_X1_isWord hG hw) q2465 q2467 qs75 q159 q2468 hd_X1_isWord ⟨rfl, rfl, rfl⟩ (fun r16 T15 hw => ?_)
        refine t_if_eq C 118 103 dX1_readSymbol_100 rfl rfl (fun hc17 => ?_) (fun hc17 => ?_)
        · replace hw := hw.1 hc17
          refine t_b C (pc' := 120) (L' := [(1, vI (T.a 2 (ni 0))), (0, vA (some o))]) (st' := [vI 4, vA (some o)]) [(.aload_n 0, 1), (.iconst 4, 1)] ⟨dX1_readSymbol_118, dX1_readSymbol_119, rfl⟩ rfl ?_
          refine t_callVI C 123 [vI 4] [] dX1_readSymbol_120 rfl (ok_X1_isWord hG hw) q2465 q2467 qs75 q159 q2468 hd_X1_isWord ⟨rfl, rfl, rfl⟩ (fun r19 T18 hw => ?_)
          refine t_if_eq C 142 126 dX1_readSymbol_123 rfl rfl (fun hc20 => ?_) (fun hc20 => ?_)
          · replace hw := hw.1 hc20
            refine t_b C (pc' := 143) (L' := [(1, vI (T.a 2 (ni 0))), (0, vA (some o))]) (st' := [vA (some o)]) [(.aload_n 0, 1)] ⟨dX1_readSymbol_142, rfl⟩ rfl ?_
            refine t_gA C 202 2 146 dX1_readSymbol_143 rfl rfl rfl rfl rfl q2190 (fun _ _ _ => rfl) ?_
            refine t_b C (pc' := 148) (L' := [(1, vI (T.a 2 (ni 0))), (0, vA (some o))]) (st' := [vI 0, vA (some (o + 1 + 2)), vI 0, vA (some (o + 1 + 2))]) [(.iconst 0, 1), (.dup2, 1)] ⟨dX1_readSymbol_146, dX1_readSymbol_147, rfl⟩ rfl ?_
            refine t_iald C 149 dX1_readSymbol_148 rfl hw.1 ?_
            replace hw := hw.2
            refine t_b C (pc' := 151) (L' := [(1, vI (T.a 2 (ni 0))), (0, vA (some o))]) (st' := [vI ((T18.a 2 (ni 0)) + 1), vI 0, vA (some (o + 1 + 2))]) [(.iconst 1, 1), (.iadd, 1)] ⟨dX1_readSymbol_149, dX1_readSymbol_150, rfl⟩ rfl ?_
            refine t_iast C 152 dX1_readSymbol_151 rfl hw.1 (fun T21 eT21 => ?_)
            replace hw := hw.2 T21 eT21
            refine t_b C (pc' := 153) (L' := [(1, vI (T.a 2 (ni 0))), (0, vA (some o))]) (st' := [vI 1]) [(.iconst 1, 1)] ⟨dX1_readSymbol_152, rfl⟩ rfl ?_
            exact t_zret C dX1_readSymbol_153 rfl ⟨_, rfl, hw⟩
          · replace hw := hw.2 hc20
            refine t_b C (pc' := 127) (L' := [(1, vI (T.a 2 (ni 0))), (0, vA (some o))]) (st' := [vA (some o)]) [(.aload_n 0, 1)] ⟨dX1_readSymbol_126, rfl⟩ rfl ?_
            refine t_callVV C 130 [] [] dX1_readSymbol_127 rfl (ok_X1_go hG hw) q2442 q2444 qs72 q159 q2445 hd_X1_go ⟨rfl, rfl, rfl⟩ (fun T22 hw => ?_)
            refine t_b C (pc' := 134) (L' := [(1, vI (T.a 2 (ni 0))), (0, vA (some o))]) (st' := [vI 12, vI (T.a 2 (ni 0)), vA (some o)]) [(.aload_n 0, 1), (.iload_n 1, 1), (.bipush 12, 2)] ⟨dX1_readSymbol_130, dX1_readSymbol_131, dX1_readSymbol_132, rfl⟩ rfl ?_
            refine t_callVI C 137 [vI (T.a 2 (ni 0)), vI 12] [] dX1_readSymbol_134 rfl (ok_X1_readAttributes hG hw) q2490 q2492 qs79 q159 q2493 hd_X1_readAttributes ⟨rfl, rfl, rfl⟩ (fun r25 T24 hw => ?_)
            refine t_if_ne C 142 140 dX1_readSymbol_137 rfl rfl (fun hc26 => ?_) (fun hc26 => ?_)
            · replace hw := hw.2 hc26
              refine t_b C (pc' := 143) (L' := [(1, vI (T.a 2 (ni 0))), (0, vA (some o))]) (st' := [vA (some o)]) [(.aload_n 0, 1)] ⟨dX1_readSymbol_142, rfl⟩ rfl ?_
              refine t_gA C 202 2 146 dX1_readSymbol_143 rfl rfl rfl rfl rfl q2190 (fun _ _ _ => rfl) ?_
              refine t_b C (pc' := 148) (L' := [(1, vI (T.a 2 (ni 0))), (0, vA (some o))]) (st' := [vI 0, vA (some (o + 1 + 2)), vI 0, vA (some (o + 1 + 2))]) [(.iconst 0, 1), (.dup2, 1)] ⟨dX1_readSymbol_146, dX1_readSymbol_147, rfl⟩ rfl ?_
              refine t_iald C 149 dX1_readSymbol_148 rfl hw.1 ?_
              replace hw := hw.2
              refine t_b C (pc' := 151) (L' := [(1, vI (T.a 2 (ni 0))), (0, vA (some o))]) (st' := [vI ((T24.a 2 (ni 0)) + 1), vI 0, vA (some (o + 1 + 2))]) [(.iconst 1, 1), (.iadd, 1)] ⟨dX1_readSymbol_149, dX1_readSymbol_150, rfl⟩ rfl ?_
              refine t_iast C 152 dX1_readSymbol_151 rfl hw.1 (fun T27 eT27 => ?_)
              replace hw := hw.2 T27 eT27
              refine t_b C (pc' := 153) (L' := [(1, vI (T.a 2 (ni 0))), (0, vA (some o))]) (st' := [vI 1]) [(.iconst 1, 1)] ⟨dX1_readSymbol_152, rfl⟩ rfl ?_
              exact t_zret C dX1_readSymbol_153 rfl ⟨_, rfl, hw⟩
            · replace hw := hw.1 hc26
              refine t_b C (pc' := 141) (L' := [(1, vI (T.a 2 (ni 0))), (0, vA (some o))]) (st' := [vI 0]) [(.iconst 0, 1)] ⟨dX1_readSymbol_140, rfl⟩ rfl ?_
              exact t_zret C dX1_readSymbol_141 rfl ⟨_, rfl, hw⟩
        · replace hw := hw.2 hc17
          refine t_b C (pc' := 104) (L' := [(1, vI (T.a 2 (ni 0))), (0, vA (some o))]) (st' := [vA (some o)]) [(.aload_n 0, 1)] ⟨dX1_readSymbol_103, rfl⟩ rfl ?_
          refine t_callVV C 107 [] [] dX1_readSymbol_104 rfl (ok_X1_go hG hw) q2442 q2444 qs72 q159 q2445 hd_X1_go ⟨rfl, rfl, rfl⟩ (fun T28 hw => ?_)
          refine t_b C (pc' := 110) (L' := [(1, vI (T.a 2 (ni 0))), (0, vA (some o))]) (st' := [vI 4, vI (T.a 2 (ni 0)), vA (some o)]) [(.aload_n 0, 1), (.iload_n 1, 1), (.iconst 4, 1)] ⟨dX1_readSymbol_107, dX1_readSymbol_108, dX1_readSymbol_109, rfl⟩ rfl ?_
          refine t_callVI C 113 [vI (T.a 2 (ni 0)), vI 4] [] dX1_readSymbol_110 rfl (ok_X1_readAttributes hG hw) q2490 q2492 qs79 q159 q2493 hd_X1_readAttributes ⟨rfl, rfl, rfl⟩ (fun r31 T30 hw => ?_)
          refine t_if_ne C 118 116 dX1_readSymbol_113 rfl rfl (fun hc32 => ?_) (fun hc32 => ?_)
          · replace hw := hw.2 hc32
            refine t_b C (pc' := 120) (L' := [(1, vI (T.a 2 (ni 0))), (0, vA (some o))]) (st' := [vI 4, vA (some o)]) [(.aload_n 0, 1), (.iconst 4, 1)] ⟨dX1_readSymbol_118, dX1_readSymbol_119, rfl⟩ rfl ?_
            refine t_callVI C 123 [vI 4] [] dX1_readSymbol_120 rfl (ok_X1_isWord hG hw) q2465 q2467 qs75 q159 q2468 hd_X1_isWord ⟨rfl, rfl, rfl⟩ (fun r34 T33 hw => ?_)
            refine t_if_eq C 142 126 dX1_readSymbol_123 rfl rfl (fun hc35 => ?_) (fun hc35 => ?_)
            · replace hw := hw.1 hc35
              refine t_b C (pc' := 143) (L' := [(1, vI (T.a 2 (ni 0))), (0, vA (some o))]) (st' := [vA (some o)]) [(.aload_n 0, 1)] ⟨dX1_readSymbol_142, rfl⟩ rfl ?_
              refine t_gA C 202 2 146 dX1_readSymbol_143 rfl rfl rfl rfl rfl q2190 (fun _ _ _ => rfl) ?_
              refine t_b C (pc' := 148) (L' := [(1, vI (T.a 2 (ni 0))), (0, vA (some o))]) (st' := [vI 0, vA (some (o + 1 + 2)), vI 0, vA (some (o + 1 + 2))]) [(.iconst 0, 1), (.dup2, 1)] ⟨dX1_readSymbol_146, dX1_readSymbol_147, rfl⟩ rfl ?_
              refine t_iald C 149 dX1_readSymbol_148 rfl hw.1 ?_
              replace hw := hw.2
              refine t_b C (pc' := 151) (L' := [(1, vI (T.a 2 (ni 0))), (0, vA (some o))]) (st' := [vI ((T33.a 2 (ni 0)) + 1), vI 0, vA (some (o + 1 + 2))]) [(.iconst 1, 1), (.iadd, 1)] ⟨dX1_readSymbol_149, dX1_readSymbol_150, rfl⟩ rfl ?_
              refine t_iast C 152 dX1_readSymbol_151 rfl hw.1 (fun T36 eT36 => ?_)
              replace hw := hw.2 T36 eT36
              refine t_b C (pc' := 153) (L' := [(1, vI (T.a 2 (ni 0))), (0, vA (some o))]) (st' := [vI 1]) [(.iconst 1, 1)] ⟨dX1_readSymbol_152, rfl⟩ rfl ?_
              exact t_zret C dX1_readSymbol_153 rfl ⟨_, rfl, hw⟩
            · replace hw := hw.2 hc35
              refine t_b C (pc' := 127) (L' := [(1, vI (T.a 2 (ni 0))), (0, vA (some o))]) (st' := [vA (some o)]) [(.aload_n 0, 1)] ⟨dX1_readSymbol_126, rfl⟩ rfl ?_
              refine t_callVV C 130 [] [] dX1_readSymbol_127 rfl (ok_X1_go hG hw) q2442 q2444 qs72 q159 q2445 hd_X1_go ⟨rfl, rfl, rfl⟩ (fun T37 hw => ?_)
              refine t_b C (pc' := 134) (L' := [(1, vI (T.a 2 (ni 0))), (0, vA (some o))]) (st' := [vI 12, vI (T.a 2 (ni 0)), vA (some o)]) [(.aload_n 0, 1), (.iload_n 1, 1), (.bipush 12, 2)] ⟨dX1_readSymbol_130, dX1_readSymbol_131, dX1_readSymbol_132, rfl⟩ rfl ?_
              refine t_callVI C 137 [vI (T.a 2 (ni 0)), vI 12] [] dX1_readSymbol_134 rfl (ok_X1_readAttributes hG hw) q2490 q2492 qs79 q159 q2493 hd_X1_readAttributes ⟨rfl, rfl, rfl⟩ (fun r40 T39 hw => ?_)
              refine t_if_ne C 142 140 dX1_readSymbol_137 rfl rfl (fun hc41 => ?_) (fun hc41 => ?_)
              · replace hw := hw.2 hc41
                refine t_b C (pc' := 143) (L' := [(1, vI (T.a 2 (ni 0))), (0, vA (some o))]) (st' := [vA (some o)]) [(.aload_n 0, 1)] ⟨dX1_readSymbol_142, rfl⟩ rfl ?_
                refine t_gA C 202 2 146 dX1_readSymbol_143 rfl rfl rfl rfl rfl q2190 (fun _ _ _ => rfl) ?_
                refine t_b C (pc' := 148) (L' := [(1, vI (T.a 2 (ni 0))), (0, vA (some o))]) (st' := [vI 0, vA (some (o + 1 + 2)), vI 0, vA (some (o + 1 + 2))]) [(.iconst 0, 1), (.dup2, 1)] ⟨dX1_readSymbol_146, dX1_readSymbol_147, rfl⟩ rfl ?_
                refine t_iald C 149 dX1_readSymbol_148 rfl hw.1 ?_
                replace hw := hw.2
                refine t_b C (pc' := 151) (L' := [(1, vI (T.a 2 (ni 0))), (0, vA (some o))]) (st' := [vI ((T39.a 2 (ni 0)) + 1), vI 0, vA (some (o + 1 + 2))]) [(.iconst 1, 1), (.iadd, 1)] ⟨dX1_readSymbol_149, dX1_readSymbol_150, rfl⟩ rfl ?_
                refine t_iast C 152 dX1_readSymbol_151 rfl hw.1 (fun T42 eT42 => ?_)
                replace hw := hw.2 T42 eT42
                refine t_b C (pc' := 153) (L' := [(1, vI (T.a 2 (ni 0))), (0, vA (some o))]) (st' := [vI 1]) [(.iconst 1, 1)] ⟨dX1_readSymbol_152, rfl⟩ rfl ?_
                exact t_zret C dX1_readSymbol_153 rfl ⟨_, rfl, hw⟩
              · replace hw := hw.1 hc41
                refine t_b C (pc' := 141) (L' := [(1, vI (T.a 2 (ni 0))), (0, vA (some o))]) (st' := [vI 0]) [(.iconst 0, 1)] ⟨dX1_readSymbol_140, rfl⟩ rfl ?_
                exact t_zret C dX1_readSymbol_141 rfl ⟨_, rfl, hw⟩
          · replace hw := hw.1 hc32
            refine t_b C (pc' := 117) (L' := [(1, vI (T.a 2 (ni 0))), (0, vA (some o))]) (st' := [vI 0]) [(.iconst 0, 1)] ⟨dX1_readSymbol_116, rfl⟩ rfl ?_
            exact t_zret C dX1_readSymbol_117 rfl ⟨_, rfl, hw⟩
      · replace hw := hw.2 hc9
        refine t_b C (pc' := 56) (L' := [(1, vI (T.a 2 (ni 0))), (0, vA (some o))]) (st' := [vI 4, vA (some o)]) [(.aload_n 0, 1), (.iconst 4, 1)] ⟨dX1_readSymbol_54, dX1_readSymbol_55, rfl⟩ rfl ?_
        refine t_callVI C 59 [vI 4] [] dX1_readSymbol_56 rfl (ok_X1_bad hG hw) q2479 q2481 qs77 q159 q2482 hd_X1_bad ⟨rfl, rfl, rfl⟩ (fun r44 T43 hw => ?_)
        exact t_zret C dX1_readSymbol_59 (bz_n hw.1) ⟨_, rfl, hw.2⟩
    · replace hw := hw.1 hc6
      refine t_b C (pc' := 33) (L' := [(1, vI (T.a 2 (ni 0))), (0, vA (some o))]) (st' := [vI 2, vA (some o)]) [(.aload_n 0, 1), (.iconst 2, 1)] ⟨dX1_readSymbol_31, dX1_readSymbol_32, rfl⟩ rfl ?_
      refine t_callVI C 36 [vI 2] [] dX1_readSymbol_33 rfl (ok_X1_bad hG hw) q2479 q2481 qs77 q159 q2482 hd_X1_bad ⟨rfl, rfl, rfl⟩ (fun r46 T45 hw => ?_)
      exact t_zret C dX1_readSymbol_36 (bz_n hw.1) ⟨_, rfl, hw.2⟩
  · replace hw := hw.1 hc1
    refine t_b C (pc' := 16) (L' := [(1, vI (T.a 2 (ni 0))), (0, vA (some o))]) (st' := [vI 6, vA (some o)]) [(.aload_n 0, 1), (.bipush 6, 2)] ⟨dX1_readSymbol_13, dX1_readSymbol_14, rfl⟩ rfl ?_
    refine t_callVI C 19 [vI 6] [] dX1_readSymbol_16 rfl (ok_X1_bad hG hw) q2479 q2481 qs77 q159 q2482 hd_X1_bad ⟨rfl, rfl, rfl⟩ (fun r48 T47 hw => ?_)
    exact t_zret C dX1_readSymbol_19 (bz_n hw.1) ⟨_, rfl, hw.2⟩
def wp_X1_readLine  (T : TS) (Q : Int32 → TS → Prop) : Prop :=
  wp_X1_isWord 0 T fun r2 T1 =>
  ((r2 = 0 →
  wp_X1_isWord 1 T1 fun r5 T4 =>
  ((r5 = 0 →
  wp_X1_isWord 2 T4 fun r8 T7 =>
  ((r8 = 0 →
  wp_X1_bad 2 T7 fun r11 T10 =>
  bz r11 ∧ Q r11 T10) ∧ (¬ r8 = 0 →
  wp_X1_readRule  T7 fun r13 T12 =>
  ((r13 = 0 →
  Q 0 T12) ∧ (¬ r13 = 0 →
  wp_X1_eats 59 T12 fun r16 T15 =>
  ∀ m17 : Int32, m17 = (if r16 = 0 then 0 else 1) →
  bz m17 ∧ Q m17 T15))))) ∧ (¬ r5 = 0 →
  wp_X1_readProduction  T4 fun r21 T20 =>
  ((r21 = 0 →
  Q 0 T20) ∧ (¬ r21 = 0 →
  wp_X1_eats 59 T20 fun r24 T23 =>
  ∀ m25 : Int32, m25 = (if r24 = 0 then 0 else 1) →
  bz m25 ∧ Q m25 T23))))) ∧ (¬ r2 = 0 →
  wp_X1_readSymbol  T1 fun r29 T28 =>
  ((r29 = 0 →
  Q 0 T28) ∧ (¬ r29 = 0 →
  wp_X1_eats 59 T28 fun r32 T31 =>
  ∀ m33 : Int32, m33 = (if r32 = 0 then 0 else 1) →
  bz m33 ∧ Q m33 T31))))
theorem hd_X1_readLine : yX1_readLine.cls = RX1 ∧ yX1_readLine.cls ≠ "java/lang/invoke/MethodHandle" ∧ yX1_readLine.cls ≠ "java/lang/invoke/VarHandle" ∧ (parseMethodDescriptor yX1_readLine.desc).map (fun d => d.parameters.length) = some 0 := by decide +kernel
theorem ok_X1_readLine {l : Launch} {D : va_G} {s0 : S0} (hG : G0 D s0) {o : Nat}  {T : TS} {Q : Int32 → TS → Prop} (hw : wp_X1_readLine  T Q) : OKt l D s0 o yX1_readLine cX1_readLine 1 (some .boolean) 60 1376 [vA (some o)] T (TI Q) := by
  refine t_met hG rfl rfl (L0 := [(0, vA (some o))]) rfl rfl ?_
  intro h K C
  unfold wp_X1_readLine at hw
  refine t_b C (pc' := 2) (L' := [(0, vA (some o))]) (st' := [vI 0, vA (some o)]) [(.aload_n 0, 1), (.iconst 0, 1)] ⟨dX1_readLine_0, dX1_readLine_1, rfl⟩ rfl ?_
  refine t_callVI C 5 [vI 0] [] dX1_readLine_2 rfl (ok_X1_isWord hG hw) q2465 q2467 qs75 q159 q2468 hd_X1_isWord ⟨rfl, rfl, rfl⟩ (fun r2 T1 hw => ?_)
  refine t_if_eq C 30 8 dX1_readLine_5 rfl rfl (fun hc3 => ?_) (fun hc3 => ?_)
  · replace hw := hw.1 hc3
    refine t_b C (pc' := 32) (L' := [(0, vA (some o))]) (st' := [vI 1, vA (some o)]) [(.aload_n 0, 1), (.iconst 1, 1)] ⟨dX1_readLine_30, dX1_readLine_31, rfl⟩ rfl ?_
    refine t_callVI C 35 [vI 1] [] dX1_readLine_32 rfl (ok_X1_isWord hG hw) q2465 q2467 qs75 q159 q2468 hd_X1_isWord ⟨rfl, rfl, rfl⟩ (fun r5 T4 hw => ?_)
    refine t_if_eq C 60 38 dX1_readLine_35 rfl rfl (fun hc6 => ?_) (fun hc6 => ?_)
    · replace hw := hw.1 hc6
      refine t_b C (pc' := 62) (L' := [(0, vA (some o))]) (st' := [vI 2, vA (some o)]) [(.aload_n 0, 1), (.iconst 2, 1)] ⟨dX1_readLine_60, dX1_readLine_61, rfl⟩ rfl ?_
      refine t_callVI C 65 [vI 2] [] dX1_readLine_62 rfl (ok_X1_isWord hG hw) q2465 q2467 qs75 q159 q2468 hd_X1_isWord ⟨rfl, rfl, rfl⟩ (fun r8 T7 hw => ?_)
      refine t_if_eq C 92 68 dX1_readLine_65 rfl rfl (fun hc9 => ?_) (fun hc9 => ?_)
      · replace hw := hw.1 hc9
        refine t_b C (pc' := 94) (L' := [(0, vA (some o))]) (st' := [vI 2, vA (some o)]) [(.aload_n 0, 1), (.iconst 2, 1)] ⟨dX1_readLine_92, dX1_readLine_93, rfl⟩ rfl ?_
        refine t_callVI C 97 [vI 2] [] dX1_readLine_94 rfl (ok_X1_bad hG hw) q2479 q2481 qs77 q159 q2482 hd_X1_bad ⟨rfl, rfl, rfl⟩ (fun r11 T10 hw => ?_)
        exact t_zret C dX1_readLine_97 (bz_n hw.1) ⟨_, rfl, hw.2⟩
      · replace hw := hw.2 hc9
        refine t_b C (pc' := 69) (L' := [(0, vA (some o))]) (st' := [vA (some o)]) [(.aload_n 0, 1)] ⟨dX1_readLine_68, rfl⟩ rfl ?_
        refine t_callVI C 72 [] [] dX1_readLine_69 rfl (ok_X1_readRule hG hw) q2509 q2511 qs83 q159 q2512 hd_X1_readRule ⟨rfl, rfl, rfl⟩ (fun r13 T12 hw => ?_)
        refine t_if_eq C 88 75 dX1_readLine_72 rfl rfl (fun hc14 => ?_) (fun hc14 => ?_)
        · replace hw := hw.1 hc14
          refine t_b C (pc' := 89) (L' := [(0, vA (some o))]) (st' := [vI 0]) [(.iconst 0, 1)] ⟨dX1_readLine_88, rfl⟩ rfl ?_
          refine t_goto C 97 dX1_readLine_89 rfl ?_
          exact t_zret C dX1_readLine_97 rfl ⟨_, rfl, hw⟩
        · replace hw := hw.2 hc14
          refine t_b C (pc' := 78) (L' := [(0, vA (some o))]) (st' := [vI 59, vA (some o)]) [(.aload_n 0, 1), (.bipush 59, 2)] ⟨dX1_readLine_75, dX1_readLine_76, rfl⟩ rfl ?_
          refine t_callVI C 81 [vI 59] [] dX1_readLine_78 rfl (ok_X1_eats hG hw) q2497 q2499 qs80 q159 q2500 hd_X1_eats ⟨rfl, rfl, rfl⟩ (fun r16 T15 hw => ?_)
          have kj18 : ∀ (m17 : Int32), m17 = (if r16 = 0 then 0 else 1) → K 97 [] [vI m17] T15 := by
            intro m17 em17
            replace hw := hw m17 em17
            exact t_zret C dX1_readLine_97 (bz_n hw.1) ⟨_, rfl, hw.2⟩
          refine t_if_eq C 88 84 dX1_readLine_81 rfl rfl (fun hc19 => ?_) (fun hc19 => ?_)
          · refine t_b C (pc' := 89) (L' := [(0, vA (some o))]) (st' := [vI 0]) [(.iconst 0, 1)] ⟨dX1_readLine_88, rfl⟩ rfl ?_
            refine t_goto C 97 dX1_readLine_89 rfl ?_
            refine t_sub C (L' := []) [] rfl ?_
            exact kj18 _ ((if_pos hc19).symm)
          · refine t_b C (pc' := 85) (L' := [(0, vA (some o))]) (st' := [vI 1]) [(.iconst 1, 1)] ⟨dX1_readLine_84, rfl⟩ rfl ?_
            refine t_goto C 97 dX1_readLine_85 rfl ?_
            refine t_sub C (L' := []) [] rfl ?_
            exact kj18 _ ((if_neg hc19).symm)
    · replace hw := hw.2 hc6
      refine t_b C (pc' := 39) (L' := [(0, vA (some o))]) (st' := [vA (some o)]) [(.aload_n 0, 1)] ⟨dX1_readLine_38, rfl⟩ rfl ?_
      refine t_callVI C 42 [] [] dX1_readLine_39 rfl (ok_X1_readProduction hG hw) q2505 q2507 qs82 q159 q2508 hd_X1_readProduction ⟨rfl, rfl, rfl⟩ (fun r21 T20 hw => ?_)
      refine t_if_eq C 58 45 dX1_readLine_42 rfl rfl (fun hc22 => ?_) (fun hc22 => ?_)
      · replace hw := hw.1 hc22
        refine t_b C (pc' := 59) (L' := [(0, vA (some o))]) (st' := [vI 0]) [(.iconst 0, 1)] ⟨dX1_readLine_58, rfl⟩ rfl ?_
        exact t_zret C dX1_readLine_59 rfl ⟨_, rfl, hw⟩
      · replace hw := hw.2 hc22
        refine t_b C (pc' := 48) (L' := [(0, vA (some o))]) (st' := [vI 59, vA (some o)]) [(.aload_n 0, 1), (.bipush 59, 2)] ⟨dX1_readLine_45, dX1_readLine_46, rfl⟩ rfl ?_
        refine t_callVI C 51 [vI 59] [] dX1_readLine_48 rfl (ok_X1_eats hG hw) q2497 q2499 qs80 q159 q2500 hd_X1_eats ⟨rfl, rfl, rfl⟩ (fun r24 T23 hw => ?_)
        have kj26 : ∀ (m25 : Int32), m25 = (if r24 = 0 then 0 else 1) → K 59 [] [vI m25] T23 := by
          intro m25 em25
          replace hw := hw m25 em25
          exact t_zret C dX1_readLine_59 (bz_n hw.1) ⟨_, rfl, hw.2⟩
        refine t_if_eq C 58 54 dX1_readLine_51 rfl rfl (fun hc27 => ?_) (fun hc27 => ?_)
        · refine t_b C (pc' := 59) (L' := [(0, vA (some o))]) (st' := [vI 0]) [(.iconst 0, 1)] ⟨dX1_readLine_58, rfl⟩ rfl ?_
          refine t_sub C (L' := []) [] rfl ?_
          exact kj26 _ ((if_pos hc27).symm)
        · refine t_b C (pc' := 55) (L' := [(0, vA (some o))]) (st' := [vI 1]) [(.iconst 1, 1)] ⟨dX1_readLine_54, rfl⟩ rfl ?_
          refine t_goto C 59 dX1_readLine_55 rfl ?_
          refine t_sub C (L' := []) [] rfl ?_
          exact kj26 _ ((if_neg hc27).symm)
  · replace hw := hw.2 hc3
    refine t_b C (pc' := 9) (L' := [(0, vA (some o))]) (st' := [vA (some o)]) [(.aload_n 0, 1)] ⟨dX1_readLine_8, rfl⟩ rfl ?_
    refine t_callVI C 12 [] [] dX1_readLine_9 rfl (ok_X1_readSymbol hG hw) q2475 q2477 qs76 q159 q2478 hd_X1_readSymbol ⟨rfl, rfl, rfl⟩ (fun r29 T28 hw => ?_)
    refine t_if_eq C 28 15 dX1_readLine_12 rfl rfl (fun hc30 => ?_) (fun hc30 => ?_)
    · replace hw := hw.1 hc30
      refine t_b C (pc' := 29) (L' := [(0, vA (some o))]) (st' := [vI 0]) [(.iconst 0, 1)] ⟨dX1_readLine_28, rfl⟩ rfl ?_
      exact t_zret C dX1_readLine_29 rfl ⟨_, rfl, hw⟩
    · replace hw := hw.2 hc30
      refine t_b C (pc' := 18) (L' := [(0, vA (some o))]) (st' := [vI 59, vA (some o)]) [(.aload_n 0, 1), (.bipush 59, 2)] ⟨dX1_readLine_15, dX1_readLine_16, rfl⟩ rfl ?_
      refine t_callVI C 21 [vI 59] [] dX1_readLine_18 rfl (ok_X1_eats hG hw) q2497 q2499 qs80 q159 q2500 hd_X1_eats ⟨rfl, rfl, rfl⟩ (fun r32 T31 hw => ?_)
      have kj34 : ∀ (m33 : Int32), m33 = (if r32 = 0 then 0 else 1) → K 29 [] [vI m33] T31 := by
        intro m33 em33
        replace hw := hw m33 em33
        exact t_zret C dX1_readLine_29 (bz_n hw.1) ⟨_, rfl, hw.2⟩
      refine t_if_eq C 28 24 dX1_readLine_21 rfl rfl (fun hc35 => ?_) (fun hc35 => ?_)
      · refine t_b C (pc' := 29) (L' := [(0, vA (some o))]) (st' := [vI 0]) [(.iconst 0, 1)] ⟨dX1_readLine_28, rfl⟩ rfl ?_
        refine t_sub C (L' := []) [] rfl ?_
        exact kj34 _ ((if_pos hc35).symm)
      · refine t_b C (pc' := 25) (L' := [(0, vA (some o))]) (st' := [vI 1]) [(.iconst 1, 1)] ⟨dX1_readLine_24, rfl⟩ rfl ?_
        refine t_goto C 29 dX1_readLine_25 rfl ?_
        refine t_sub C (L' := []) [] rfl ?_
        exact kj34 _ ((if_neg hc35).symm)
def wp_X1_grammar (p0 : Int32) (T : TS) (Q : Int32 → TS → Prop) : Prop :=
  wp_X1_isFrom p0 0 (T.s 205) T fun r2 T1 =>
  ((r2 = 0 →
  wp_X1_refuse 1 T1 fun r40 T39 =>
  Q r40 T39) ∧ (¬ r2 = 0 →
  wp_X1_begins p0 T1 fun T4 =>
  tix 2 40 0 ∧
  ∀ T6, T6 = T4.sa 2 (ni 0) 0 →
  tix 2 40 1 ∧
  ∀ T7, T7 = T6.sa 2 (ni 1) 0 →
  tix 2 40 2 ∧
  ∀ T8, T8 = T7.sa 2 (ni 2) 0 →
  tix 2 40 3 ∧
  ∀ T9, T9 = T8.sa 2 (ni 3) 0 →
  wp_X1_readLine  T9 fun r11 T10 =>
  tlp (σ := Int32) (fun s12 T13 k12 =>
  ((((s12 = 0) ∨ ((T13.s 213) = 0)) →
  wp_X1_ends s12 T13 fun r17 T16 =>
  ((r17 ≤ 0 →
  tlp (σ := Int32) (fun s19 T20 k19 =>
  ((3816 ≤ s19 →
  tlp (σ := Int32) (fun s22 T23 k22 =>
  ((84 ≤ s22 →
  ∀ T25, T25 = T23.ss 209 1 →
  ∀ T26, T26 = T25.ss 250 0 →
  wp_X1_induces  T26 fun T27 =>
  tix 1 40 1 ∧
  wp_X1_gives (T27.a 1 (ni 1)) T27 fun r30 T29 =>
  Q r30 T29) ∧ (¬ 84 ≤ s22 →
  tix 4 43 s22 ∧
  tix 3 43 s22 ∧
  ∀ T31, T31 = T23.sl 3 (ni s22) (T23.l 4 (ni s22)) →
  k22 (s22 + 1) T31))) 0 T20) ∧ (¬ 3816 ≤ s19 →
  tix 2 40 s19 ∧
  tix 1 40 s19 ∧
  ∀ T32, T32 = T20.sa 1 (ni s19) (T20.a 2 (ni s19)) →
  k19 (s19 + 1) T32))) 0 T16) ∧ (¬ r17 ≤ 0 →
  wp_X1_refuse 9 T16 fun r34 T33 =>
  Q r34 T33))) ∧ (¬ ((s12 = 0) ∨ ((T13.s 213) = 0)) →
  wp_X1_readLine  T13 fun r36 T35 =>
  k12 r36 T35))) r11 T10))
theorem hd_X1_grammar : yX1_grammar.cls = RX1 ∧ yX1_grammar.cls ≠ "java/lang/invoke/MethodHandle" ∧ yX1_grammar.cls ≠ "java/lang/invoke/VarHandle" ∧ (parseMethodDescriptor yX1_grammar.desc).map (fun d => d.parameters.length) = some 1 := by decide +kernel
theorem ok_X1_grammar {l : Launch} {D : va_G} {s0 : S0} (hG : G0 D s0) {o : Nat} {p0 : Int32} {T : TS} {Q : Int32 → TS → Prop} (hw : wp_X1_grammar p0 T Q) : OKt l D s0 o yX1_grammar cX1_grammar 4 (some .int) 61 1396 [vA (some o), vI p0] T (TI Q) := by
  refine t_met hG rfl rfl (L0 := [(0, vA (some o)), (1, vI p0)]) rfl rfl ?_
  intro h K C
  unfold wp_X1_grammar at hw
  refine t_b C (pc' := 3) (L' := [(0, vA (some o)), (1, vI p0)]) (st' := [vA (some o), vI 0, vI p0]) [(.iload_n 1, 1), (.iconst 0, 1), (.aload_n 0, 1)] ⟨dX1_grammar_0, dX1_grammar_1, dX1_grammar_2, rfl⟩ rfl ?_
  refine t_gI C 205 6 dX1_grammar_3 rfl rfl rfl q2193 (fun _ _ _ => rfl) ?_
  refine t_callSI C 9 [vI p0, vI 0, vI (T.s 205)] [] dX1_grammar_6 rfl (ok_X1_isFrom hG hw) q2431 q2432 q159 q2433 hd_X1_isFrom ⟨rfl, rfl, rfl⟩ (fun r2 T1 hw => ?_)
  refine t_if_ne C 18 12 dX1_grammar_9 rfl rfl (fun hc3 => ?_) (fun hc3 => ?_)
  · replace hw := hw.2 hc3
    refine t_b C (pc' := 20) (L' := [(0, vA (some o)), (1, vI p0)]) (st' := [vI p0, vA (some o)]) [(.aload_n 0, 1), (.iload_n 1, 1)] ⟨dX1_grammar_18, dX1_grammar_19, rfl⟩ rfl ?_
    refine t_callVV C 23 [vI p0] [] dX1_grammar_20 rfl (ok_X1_begins hG hw) q2438 q2440 qs71 q159 q2441 hd_X1_begins ⟨rfl, rfl, rfl⟩ (fun T4 hw => ?_)
    refine t_b C (pc' := 24) (L' := [(0, vA (some o)), (1, vI p0)]) (st' := [vA (some o)]) [(.aload_n 0, 1)] ⟨dX1_grammar_23, rfl⟩ rfl ?_
    refine t_gA C 202 2 27 dX1_grammar_24 rfl rfl rfl rfl rfl q2190 (fun _ _ _ => rfl) ?_
    refine t_b C (pc' := 29) (L' := [(0, vA (some o)), (1, vI p0)]) (st' := [vI 0, vI 0, vA (some (o + 1 + 2))]) [(.iconst 0, 1), (.iconst 0, 1)] ⟨dX1_grammar_27, dX1_grammar_28, rfl⟩ rfl ?_
    refine t_iast C 30 dX1_grammar_29 rfl hw.1 (fun T6 eT6 => ?_)
    replace hw := hw.2 T6 eT6
    refine t_b C (pc' := 31) (L' := [(0, vA (some o)), (1, vI p0)]) (st' := [vA (some o)]) [(.aload_n 0, 1)] ⟨dX1_grammar_30, rfl⟩ rfl ?_
    refine t_gA C 202 2 34 dX1_grammar_31 rfl rfl rfl rfl rfl q2190 (fun _ _ _ => rfl) ?_
    refine t_b C (pc' := 36) (L' := [(0, vA (some o)), (1, vI p0)]) (st' := [vI 0, vI 1, vA (some (o + 1 + 2))]) [(.iconst 1, 1), (.iconst 0, 1)] ⟨dX1_grammar_34, dX1_grammar_35, rfl⟩ rfl ?_
    refine t_iast C 37 dX1_grammar_36 rfl hw.1 (fun T7 eT7 => ?_)
    replace hw := hw.2 T7 eT7
    refine t_b C (pc' := 38) (L' := [(0, vA (some o)), (1, vI p0)]) (st' := [vA (some o)]) [(.aload_n 0, 1)] ⟨dX1_grammar_37, rfl⟩ rfl ?_
    refine t_gA C 202 2 41 dX1_grammar_38 rfl rfl rfl rfl rfl q2190 (fun _ _ _ => rfl) ?_
    refine t_b C (pc' := 43) (L' := [(0, vA (some o)), (1, vI p0)]) (st' := [vI 0, vI 2, vA (some (o + 1 + 2))]) [(.iconst 2, 1), (.iconst 0, 1)] ⟨dX1_grammar_41, dX1_grammar_42, rfl⟩ rfl ?_
    refine t_iast C 44 dX1_grammar_43 rfl hw.1 (fun T8 eT8 => ?_)
    replace hw := hw.2 T8 eT8
    refine t_b C (pc' := 45) (L' := [(0, vA (some o)), (1, vI p0)]) (st' := [vA (some o)]) [(.aload_n 0, 1)] ⟨dX1_grammar_44, rfl⟩ rfl ?_
    refine t_gA C 202 2 48 dX1_grammar_45 rfl rfl rfl rfl rfl q2190 (fun _ _ _ => rfl) ?_
    refine t_b C (pc' := 50) (L' := [(0, vA (some o)), (1, vI p0)]) (st' := [vI 0, vI 3, vA (some (o + 1 + 2))]) [(.iconst 3, 1), (.iconst 0, 1)] ⟨dX1_grammar_48, dX1_grammar_49, rfl⟩ rfl ?_
    refine t_iast C 51 dX1_grammar_50 rfl hw.1 (fun T9 eT9 => ?_)
    replace hw := hw.2 T9 eT9
    refine t_b C (pc' := 52) (L' := [(0, vA (some o)), (1, vI p0)]) (st' := [vA (some o)]) [(.aload_n 0, 1)] ⟨dX1_grammar_51, rfl⟩ rfl ?_
    refine t_callVI C 55 [] [] dX1_grammar_52 rfl (ok_X1_readLine hG hw) q2461 q2463 qs74 q159 q2464 hd_X1_readLine ⟨rfl, rfl, rfl⟩ (fun r11 T10 hw => ?_)
    refine t_b C (pc' := 56) (L' := [(2, vI r11), (0, vA (some o)), (1, vI p0)]) (st' := []) [(.istore_n 2, 1)] ⟨dX1_grammar_55, rfl⟩ rfl ?_
    obtain ⟨I12, ⟨n12, hI12⟩, hB12⟩ := tlp.out hw
    refine t_sub C (L' := [(0, vA (some o)), (2, vI r11)]) [1, 0] rfl ?_
    have key12 : ∀ (n : Nat) (s12 : Int32) (T13 : TS), I12 n s12 T13 → K 56 [(0, vA (some o)), (2, vI s12)] [] T13 := by
      intro n
      induction n using Nat.strongRecOn with
      | ind n ih12 =>
        intro s12 T13 hI
        replace hw := hB12 n s12 T13 hI
        refine t_b C (pc' := 57) (L' := [(0, vA (some o)), (2, vI s12)]) (st' := [vI s12]) [(.iload_n 2, 1)] ⟨dX1_grammar_56, rfl⟩ rfl ?_
        have kx14 : ((s12 = 0) ∨ ((T13.s 213) = 0)) → K 75 [(0, vA (some o)), (2, vI s12)] [] T13 := by
          intro hcc
          replace hw := hw.1 hcc
          refine t_b C (pc' := 77) (L' := [(0, vA (some o)), (2, vI s12)]) (st' := [vI s12, vA (some o)]) [(.aload_n 0, 1), (.iload_n 2, 1)] ⟨dX1_grammar_75, dX1_grammar_76, rfl⟩ rfl ?_
          refine t_callVI C 80 [vI s12] [] dX1_grammar_77 rfl (ok_X1_ends hG hw) q2554 q2556 qs92 q159 q2557 hd_X1_ends ⟨rfl, rfl, rfl⟩ (fun r17 T16 hw => ?_)
          refine t_if_le C 90 83 dX1_grammar_80 rfl rfl (fun hc18 => ?_) (fun hc18 => ?_)
          · replace hw := hw.1 hc18
            refine t_b C (pc' := 92) (L' := [(3, vI 0), (0, vA (some o)), (2, vI s12)]) (st' := []) [(.iconst 0, 1), (.istore_n 3, 1)] ⟨dX1_grammar_90, dX1_grammar_91, rfl⟩ rfl ?_
            obtain ⟨I19, ⟨n19, hI19⟩, hB19⟩ := tlp.out hw
            refine t_sub C (L' := [(0, vA (some o)), (3, vI 0)]) [1, 0] rfl ?_
            have key19 : ∀ (n : Nat) (s19 : Int32) (T20 : TS), I19 n s19 T20 → K 92 [(0, vA (some o)), (3, vI s19)] [] T20 := by
              intro n
              induction n using Nat.strongRecOn with
              | ind n ih19 =>
                intro s19 T20 hI
                replace hw := hB19 n s19 T20 hI
                refine t_b C (pc' := 96) (L' := [(0, vA (some o)), (3, vI s19)]) (st' := [vI 3816, vI s19]) [(.iload_n 3, 1), (.sipush 3816, 3)] ⟨dX1_grammar_92, dX1_grammar_93, rfl⟩ rfl ?_
                refine t_icmp_ge C 117 99 dX1_grammar_96 rfl rfl (fun hc21 => ?_) (fun hc21 => ?_)
                · replace hw := hw.1 hc21
                  refine t_b C (pc' := 119) (L' := [(3, vI 0), (0, vA (some o))]) (st' := []) [(.iconst 0, 1), (.istore_n 3, 1)] ⟨dX1_grammar_117, dX1_grammar_118, rfl⟩ rfl ?_
                  obtain ⟨I22, ⟨n22, hI22⟩, hB22⟩ := tlp.out hw
                  refine t_sub C (L' := [(0, vA (some o)), (3, vI 0)]) [1, 0] rfl ?_
                  have key22 : ∀ (n : Nat) (s22 : Int32) (T23 : TS), I22 n s22 T23 → K 119 [(0, vA (some o)), (3, vI s22)] [] T23 := by
                    intro n
                    induction n using Nat.strongRecOn with
                    | ind n ih22 =>
                      intro s22 T23 hI
                      replace hw := hB22 n s22 T23 hI
                      refine t_b C (pc' := 122) (L' := [(0, vA (some o)), (3, vI s22)]) (st' := [vI 84, vI s22]) [(.iload_n 3, 1), (.bipush 84, 2)] ⟨dX1_grammar_119, dX1_grammar_120, rfl⟩ rfl ?_
                      refine t_icmp_ge C 143 125 dX1_grammar_122 rfl rfl (fun hc24 => ?_) (fun hc24 => ?_)
                      · replace hw := hw.1 hc24
                        refine t_b C (pc' := 145) (L' := [(0, vA (some o)), (3, vI s22)]) (st' := [vI 1, vA (some o)]) [(.aload_n 0, 1), (.iconst 1, 1)] ⟨dX1_grammar_143, dX1_grammar_144, rfl⟩ rfl ?_
                        refine t_pI C 209 148 dX1_grammar_145 rfl rfl rfl rfl q2197 (fun _ _ _ => rfl) rfl rfl (fun T25 eT25 => ?_)
                        replace hw := hw T25 eT25
                        refine t_b C (pc' := 150) (L' := [(0, vA (some o)), (3, vI s22)]) (st' := [vI 0, vA (some o)]) [(.aload_n 0, 1), (.iconst 0, 1)] ⟨dX1_grammar_148, dX1_grammar_149, rfl⟩ rfl ?_
                        refine t_pI C 250 153 dX1_grammar_150 rfl rfl rfl rfl q2238 (fun _ _ _ => rfl) rfl rfl (fun T26 eT26 => ?_)
                        replace hw := hw T26 eT26
                        refine t_b C (pc' := 154) (L' := [(0, vA (some o)), (3, vI s22)]) (st' := [vA (some o)]) [(.aload_n 0, 1)] ⟨dX1_grammar_153, rfl⟩ rfl ?_
                        refine t_callVV C 157 [] [] dX1_grammar_154 rfl (ok_X1_induces hG hw) q2558 q2560 qs93 q159 q2561 hd_X1_induces ⟨rfl, rfl, rfl⟩ (fun T27 hw => ?_)
                        refine t_b C (pc' := 159) (L' := [(0, vA (some o)), (3, vI s22)]) (st' := [vA (some o), vA (some o)]) [(.aload_n 0, 1), (.aload_n 0, 1)] ⟨dX1_grammar_157, dX1_grammar_158, rfl⟩ rfl ?_
                        refine t_gA C 201 1 162 dX1_grammar_159 rfl rfl rfl rfl rfl q2189 (fun _ _ _ => rfl) ?_
                        refine t_b C (pc' := 163) (L' := [(0, vA (some o)), (3, vI s22)]) (st' := [vI 1, vA (some (o + 1 + 1)), vA (some o)]) [(.iconst 1, 1)] ⟨dX1_grammar_162, rfl⟩ rfl ?_
                        refine t_iald C 164 dX1_grammar_163 rfl hw.1 ?_
                        replace hw := hw.2
                        refine t_callVI C 167 [vI (T27.a 1 (ni 1))] [] dX1_grammar_164 rfl (ok_X1_gives hG hw) q2589 q2591 qs100 q159 q2592 hd_X1_gives ⟨rfl, rfl, rfl⟩ (fun r30 T29 hw => ?_)
                        exact t_iret C dX1_grammar_167 ⟨_, rfl, hw⟩
                      · replace hw := hw.2 hc24
                        refine t_b C (pc' := 126) (L' := [(0, vA (some o)), (3, vI s22)]) (st' := [vA (some o)]) [(.aload_n 0, 1)] ⟨dX1_grammar_125, rfl⟩ rfl ?_
                        refine t_gA C 203 3 129 dX1_grammar_126 rfl rfl rfl rfl rfl q2191 (fun _ _ _ => rfl) ?_
                        refine t_b C (pc' := 131) (L' := [(0, vA (some o)), (3, vI s22)]) (st' := [vA (some o), vI s22, vA (some (o + 1 + 3))]) [(.iload_n 3, 1), (.aload_n 0, 1)] ⟨dX1_grammar_129, dX1_grammar_130, rfl⟩ rfl ?_
                        refine t_gA C 204 4 134 dX1_grammar_131 rfl rfl rfl rfl rfl q2192 (fun _ _ _ => rfl) ?_
                        refine t_b C (pc' := 135) (L' := [(0, vA (some o)), (3, vI s22)]) (st' := [vI s22, vA (some (o + 1 + 4)), vI s22, vA (some (o + 1 + 3))]) [(.iload_n 3, 1)] ⟨dX1_grammar_134, rfl⟩ rfl ?_
                        refine t_lald C 136 dX1_grammar_135 rfl hw.1 ?_
                        replace hw := hw.2
                        refine t_last C 137 dX1_grammar_136 rfl hw.1 (fun T31 eT31 => ?_)
                        replace hw := hw.2 T31 eT31
                        refine t_b C (pc' := 140) (L' := [(3, vI (s22 + 1)), (0, vA (some o))]) (st' := []) [(.iinc 3 1, 3)] ⟨dX1_grammar_137, rfl⟩ rfl ?_
                        refine t_goto C 119 dX1_grammar_140 rfl ?_
                        refine t_sub C (L' := [(0, vA (some o)), (3, vI (s22 + 1))]) [1, 0] rfl ?_
                        obtain ⟨m9, hm9, hw⟩ := hw
                        exact ih22 m9 hm9 (s22 + 1) T31 hw
                  exact key22 n22 0 T20 hI22
                · replace hw := hw.2 hc21
                  refine t_b C (pc' := 100) (L' := [(0, vA (some o)), (3, vI s19)]) (st' := [vA (some o)]) [(.aload_n 0, 1)] ⟨dX1_grammar_99, rfl⟩ rfl ?_
                  refine t_gA C 201 1 103 dX1_grammar_100 rfl rfl rfl rfl rfl q2189 (fun _ _ _ => rfl) ?_
                  refine t_b C (pc' := 105) (L' := [(0, vA (some o)), (3, vI s19)]) (st' := [vA (some o), vI s19, vA (some (o + 1 + 1))]) [(.iload_n 3, 1), (.aload_n 0, 1)] ⟨dX1_grammar_103, dX1_grammar_104, rfl⟩ rfl ?_
                  refine t_gA C 202 2 108 dX1_grammar_105 rfl rfl rfl rfl rfl q2190 (fun _ _ _ => rfl) ?_
                  refine t_b C (pc' := 109) (L' := [(0, vA (some o)), (3, vI s19)]) (st' := [vI s19, vA (some (o + 1 + 2)), vI s19, vA (some (o + 1 + 1))]) [(.iload_n 3, 1)] ⟨dX1_grammar_108, rfl⟩ rfl ?_
                  refine t_iald C 110 dX1_grammar_109 rfl hw.1 ?_
                  replace hw := hw.2
                  refine t_iast C 111 dX1_grammar_110 rfl hw.1 (fun T32 eT32 => ?_)
                  replace hw := hw.2 T32 eT32
                  refine t_b C (pc' := 114) (L' := [(3, vI (s19 + 1)), (0, vA (some o))]) (st' := []) [(.iinc 3 1, 3)] ⟨dX1_grammar_111, rfl⟩ rfl ?_
                  refine t_goto C 92 dX1_grammar_114 rfl ?_
                  refine t_sub C (L' := [(0, vA (some o)), (3, vI (s19 + 1))]) [1, 0] rfl ?_
                  obtain ⟨m9, hm9, hw⟩ := hw
                  exact ih19 m9 hm9 (s19 + 1) T32 hw
            exact key19 n19 0 T16 hI19
          · replace hw := hw.2 hc18
            refine t_b C (pc' := 86) (L' := [(0, vA (some o)), (2, vI s12)]) (st' := [vI 9, vA (some o)]) [(.aload_n 0, 1), (.bipush 9, 2)] ⟨dX1_grammar_83, dX1_grammar_84, rfl⟩ rfl ?_
            refine t_callVI C 89 [vI 9] [] dX1_grammar_86 rfl (ok_X1_refuse hG hw) q2434 q2436 qs70 q159 q2437 hd_X1_refuse ⟨rfl, rfl, rfl⟩ (fun r34 T33 hw => ?_)
            exact t_iret C dX1_grammar_89 ⟨_, rfl, hw⟩
        have ky15 : ¬ ((s12 = 0) ∨ ((T13.s 213) = 0)) → K 68 [(0, vA (some o)), (2, vI s12)] [vA (some o)] T13 := by
          intro hcc
          replace hw := hw.2 hcc
          refine t_callVI C 71 [] [] dX1_grammar_68 rfl (ok_X1_readLine hG hw) q2461 q2463 qs74 q159 q2464 hd_X1_readLine ⟨rfl, rfl, rfl⟩ (fun r36 T35 hw => ?_)
          refine t_b C (pc' := 72) (L' := [(2, vI r36), (0, vA (some o))]) (st' := []) [(.istore_n 2, 1)] ⟨dX1_grammar_71, rfl⟩ rfl ?_
          refine t_goto C 56 dX1_grammar_72 rfl ?_
          refine t_sub C (L' := [(0, vA (some o)), (2, vI r36)]) [1, 0] rfl ?_
          obtain ⟨m9, hm9, hw⟩ := hw
          exact ih12 m9 hm9 r36 T35 hw
        refine t_if_eq C 75 60 dX1_grammar_57 rfl rfl (fun hc37 => ?_) (fun hc37 => ?_)
        · exact kx14 (Or.inl hc37)
        · refine t_b C (pc' := 61) (L' := [(0, vA (some o)), (2, vI s12)]) (st' := [vA (some o)]) [(.aload_n 0, 1)] ⟨dX1_grammar_60, rfl⟩ rfl ?_
          refine t_gI C 213 64 dX1_grammar_61 rfl rfl rfl q2201 (fun _ _ _ => rfl) ?_
          refine t_if_eq C 75 67 dX1_grammar_64 rfl rfl (fun hc38 => ?_) (fun hc38 => ?_)
          · exact kx14 (Or.inr hc38)
          · refine t_b C (pc' := 68) (L' := [(0, vA (some o)), (2, vI s12)]) (st' := [vA (some o)]) [(.aload_n 0, 1)] ⟨dX1_grammar_67, rfl⟩ rfl ?_
            exact ky15 (fun h0 => h0.elim hc37 hc38)
    exact key12 n12 r11 T10 hI12
  · replace hw := hw.1 hc3
    refine t_b C (pc' := 14) (L' := [(0, vA (some o)), (1, vI p0)]) (st' := [vI 1, vA (some o)]) [(.aload_n 0, 1), (.iconst 1, 1)] ⟨dX1_grammar_12, dX1_grammar_13, rfl⟩ rfl ?_
    refine t_callVI C 17 [vI 1] [] dX1_grammar_14 rfl (ok_X1_refuse hG hw) q2434 q2436 qs70 q159 q2437 hd_X1_refuse ⟨rfl, rfl, rfl⟩ (fun r40 T39 hw => ?_)
    exact t_iret C dX1_grammar_17 ⟨_, rfl, hw⟩
def wp_X1_isProduction (p0 : Int32) (T : TS) (Q : Int32 → TS → Prop) : Prop :=
  (((T.s 209) = 0 →
  Q 0 T) ∧ (¬ (T.s 209) = 0 →
  tix 1 40 1 ∧
  wp_X1_isFrom p0 0 ((T.a 1 (ni 1)) - 1) T fun r3 T2 =>
  ∀ m4 : Int32, m4 = (if r3 = 0 then 0 else 1) →
  bz m4 ∧ Q m4 T2))
theorem hd_X1_isProduction : yX1_isProduction.cls = RX1 ∧ yX1_isProduction.cls ≠ "java/lang/invoke/MethodHandle" ∧ yX1_isProduction.cls ≠ "java/lang/invoke/VarHandle" ∧ (parseMethodDescriptor yX1_isProduction.desc).map (fun d => d.parameters.length) = some 1 := by decide +kernel
theorem ok_X1_isProduction {l : Launch} {D : va_G} {s0 : S0} (hG : G0 D s0) {o : Nat} {p0 : Int32} {T : TS} {Q : Int32 → TS → Prop} (hw : wp_X1_isProduction p0 T Q) : OKt l D s0 o yX1_isProduction cX1_isProduction 2 (some .boolean) 1 22 [vA (some o), vI p0] T (TI Q) := by
  refine t_met hG rfl rfl (L0 := [(0, vA (some o)), (1, vI p0)]) rfl rfl ?_
  intro h K C
  unfold wp_X1_isProduction at hw
  refine t_b C (pc' := 1) (L' := [(0, vA (some o)), (1, vI p0)]) (st' := [vA (some o)]) [(.aload_n 0, 1)] ⟨dX1_isProduction_0, rfl⟩ rfl ?_
  refine t_gI C 209 4 dX1_isProduction_1 rfl rfl rfl q2197 (fun _ _ _ => rfl) ?_
  refine t_if_eq C 27 7 dX1_isProduction_4 rfl rfl (fun hc1 => ?_) (fun hc1 => ?_)
  · replace hw := hw.1 hc1
    refine t_b C (pc' := 28) (L' := [(0, vA (some o)), (1, vI p0)]) (st' := [vI 0]) [(.iconst 0, 1)] ⟨dX1_isProduction_27, rfl⟩ rfl ?_
    exact t_zret C dX1_isProduction_28 rfl ⟨_, rfl, hw⟩
  · replace hw := hw.2 hc1
    refine t_b C (pc' := 10) (L' := [(0, vA (some o)), (1, vI p0)]) (st' := [vA (some o), vI 0, vI p0]) [(.iload_n 1, 1), (.iconst 0, 1), (.aload_n 0, 1)] ⟨dX1_isProduction_7, dX1_isProduction_8, dX1_isProduction_9, rfl⟩ rfl ?_
    refine t_gA C 201 1 13 dX1_isProduction_10 rfl rfl rfl rfl rfl q2189 (fun _ _ _ => rfl) ?_
    refine t_b C (pc' := 14) (L' := [(0, vA (some o)), (1, vI p0)]) (st' := [vI 1, vA (some (o + 1 + 1)), vI 0, vI p0]) [(.iconst 1, 1)] ⟨dX1_isProduction_13, rfl⟩ rfl ?_
    refine t_iald C 15 dX1_isProduction_14 rfl hw.1 ?_
    replace hw := hw.2
    refine t_b C (pc' := 17) (L' := [(0, vA (some o)), (1, vI p0)]) (st' := [vI ((T.a 1 (ni 1)) - 1), vI 0, vI p0]) [(.iconst 1, 1), (.isub, 1)] ⟨dX1_isProduction_15, dX1_isProduction_16, rfl⟩ rfl ?_
    refine t_callSI C 20 [vI p0, vI 0, vI ((T.a 1 (ni 1)) - 1)] [] dX1_isProduction_17 rfl (ok_X1_isFrom hG hw) q2431 q2432 q159 q2433 hd_X1_isFrom ⟨rfl, rfl, rfl⟩ (fun r3 T2 hw => ?_)
    have kj5 : ∀ (m4 : Int32), m4 = (if r3 = 0 then 0 else 1) → K 28 [] [vI m4] T2 := by
      intro m4 em4
      replace hw := hw m4 em4
      exact t_zret C dX1_isProduction_28 (bz_n hw.1) ⟨_, rfl, hw.2⟩
    refine t_if_eq C 27 23 dX1_isProduction_20 rfl rfl (fun hc6 => ?_) (fun hc6 => ?_)
    · refine t_b C (pc' := 28) (L' := [(0, vA (some o)), (1, vI p0)]) (st' := [vI 0]) [(.iconst 0, 1)] ⟨dX1_isProduction_27, rfl⟩ rfl ?_
      refine t_sub C (L' := []) [] rfl ?_
      exact kj5 _ ((if_pos hc6).symm)
    · refine t_b C (pc' := 24) (L' := [(0, vA (some o)), (1, vI p0)]) (st' := [vI 1]) [(.iconst 1, 1)] ⟨dX1_isProduction_23, rfl⟩ rfl ?_
      refine t_goto C 28 dX1_isProduction_24 rfl ?_
      refine t_sub C (L' := []) [] rfl ?_
      exact kj5 _ ((if_neg hc6).symm)
def wp_X1_isOcc (p0 : Int32) (p1 : Int32) (T : TS) (Q : Int32 → TS → Prop) : Prop :=
  wp_X1_isProduction p0 T fun r2 T1 =>
  ((((r2 = 0) ∨ (p1 < 0)) →
  Q 0 T1) ∧ (¬ ((r2 = 0) ∨ (p1 < 0)) →
  wp_X1_isPosition 1 p0 (p1 / 8) T1 fun r6 T5 =>
  ((r6 = 0 →
  Q 0 T5) ∧ (¬ r6 = 0 →
  wp_X1_symbolAt 1 p0 (p1 / 8) T5 fun r9 T8 =>
  wp_X1_attributes r9 T8 fun r11 T10 =>
  ∀ m12 : Int32, m12 = (if r11 ≤ (jrem p1 8) then 0 else 1) →
  bz m12 ∧ Q m12 T10))))
theorem hd_X1_isOcc : yX1_isOcc.cls = RX1 ∧ yX1_isOcc.cls ≠ "java/lang/invoke/MethodHandle" ∧ yX1_isOcc.cls ≠ "java/lang/invoke/VarHandle" ∧ (parseMethodDescriptor yX1_isOcc.desc).map (fun d => d.parameters.length) = some 2 := by decide +kernel
theorem ok_X1_isOcc {l : Launch} {D : va_G} {s0 : S0} (hG : G0 D s0) {o : Nat} {p0 : Int32} {p1 : Int32} {T : TS} {Q : Int32 → TS → Prop} (hw : wp_X1_isOcc p0 p1 T Q) : OKt l D s0 o yX1_isOcc cX1_isOcc 3 (some .boolean) 2 44 [vA (some o), vI p0, vI p1] T (TI Q) := by
  refine t_met hG rfl rfl (L0 := [(0, vA (some o)), (1, vI p0), (2, vI p1)]) rfl rfl ?_
  intro h K C
  unfold wp_X1_isOcc at hw
  refine t_b C (pc' := 2) (L' := [(0, vA (some o)), (1, vI p0), (2, vI p1)]) (st' := [vI p0, vA (some o)]) [(.aload_n 0, 1), (.iload_n 1, 1)] ⟨dX1_isOcc_0, dX1_isOcc_1, rfl⟩ rfl ?_
  refine t_callVI C 5 [vI p0] [] dX1_isOcc_2 rfl (ok_X1_isProduction hG hw) q2633 q2635 qs107 q159 q2636 hd_X1_isProduction ⟨rfl, rfl, rfl⟩ (fun r2 T1 hw => ?_)
  have kx3 : ((r2 = 0) ∨ (p1 < 0)) → K 54 [(0, vA (some o)), (1, vI p0), (2, vI p1)] [] T1 := by
    intro hcc
    replace hw := hw.1 hcc
    refine t_b C (pc' := 55) (L' := [(0, vA (some o)), (1, vI p0), (2, vI p1)]) (st' := [vI 0]) [(.iconst 0, 1)] ⟨dX1_isOcc_54, rfl⟩ rfl ?_
    exact t_zret C dX1_isOcc_55 rfl ⟨_, rfl, hw⟩
  have ky4 : ¬ ((r2 = 0) ∨ (p1 < 0)) → K 21 [(0, vA (some o)), (1, vI p0), (2, vI p1)] [vI (p1 / 8), vI p0, vA (some (o + 1 + 1))] T1 := by
    intro hcc
    replace hw := hw.2 hcc
    refine t_callSI C 24 [vA (some (o + 1 + 1)), vI p0, vI (p1 / 8)] [] dX1_isOcc_21 rfl (ok_X1_isPosition hG hw) q2513 q2514 q159 q2515 hd_X1_isPosition ⟨rfl, rfl, rfl⟩ (fun r6 T5 hw => ?_)
    refine t_if_eq C 54 27 dX1_isOcc_24 rfl rfl (fun hc7 => ?_) (fun hc7 => ?_)
    · replace hw := hw.1 hc7
      refine t_b C (pc' := 55) (L' := [(0, vA (some o)), (1, vI p0), (2, vI p1)]) (st' := [vI 0]) [(.iconst 0, 1)] ⟨dX1_isOcc_54, rfl⟩ rfl ?_
      exact t_zret C dX1_isOcc_55 rfl ⟨_, rfl, hw⟩
    · replace hw := hw.2 hc7
      refine t_b C (pc' := 33) (L' := [(0, vA (some o)), (1, vI p0), (2, vI p1)]) (st' := [vA (some o), vA (some o), vI (jrem p1 8)]) [(.iload_n 2, 1), (.bipush 8, 2), (.irem, 1), (.aload_n 0, 1), (.aload_n 0, 1)] ⟨dX1_isOcc_27, dX1_isOcc_28, dX1_isOcc_30, dX1_isOcc_31, dX1_isOcc_32, rfl⟩ rfl ?_
      refine t_gA C 201 1 36 dX1_isOcc_33 rfl rfl rfl rfl rfl q2189 (fun _ _ _ => rfl) ?_
      refine t_b C (pc' := 41) (L' := [(0, vA (some o)), (1, vI p0), (2, vI p1)]) (st' := [vI (p1 / 8), vI p0, vA (some (o + 1 + 1)), vA (some o), vI (jrem p1 8)]) [(.iload_n 1, 1), (.iload_n 2, 1), (.bipush 8, 2), (.idiv, 1)] ⟨dX1_isOcc_36, dX1_isOcc_37, dX1_isOcc_38, dX1_isOcc_40, rfl⟩ rfl ?_
      refine t_callSI C 44 [vA (some (o + 1 + 1)), vI p0, vI (p1 / 8)] [vA (some o), vI (jrem p1 8)] dX1_isOcc_41 rfl (ok_X1_symbolAt hG hw) q2520 q2521 q159 q2522 hd_X1_symbolAt ⟨rfl, rfl, rfl⟩ (fun r9 T8 hw => ?_)
      refine t_callVI C 47 [vI r9] [vI (jrem p1 8)] dX1_isOcc_44 rfl (ok_X1_attributes hG hw) q2578 q2580 qs98 q159 q2581 hd_X1_attributes ⟨rfl, rfl, rfl⟩ (fun r11 T10 hw => ?_)
      have kj13 : ∀ (m12 : Int32), m12 = (if r11 ≤ (jrem p1 8) then 0 else 1) → K 55 [] [vI m12] T10 := by
        intro m12 em12
        replace hw := hw m12 em12
        exact t_zret C dX1_isOcc_55 (bz_n hw.1) ⟨_, rfl, hw.2⟩
      refine t_icmp_ge C 54 50 dX1_isOcc_47 rfl rfl (fun hc14 => ?_) (fun hc14 => ?_)
      · refine t_b C (pc' := 55) (L' := [(0, vA (some o)), (1, vI p0), (2, vI p1)]) (st' := [vI 0]) [(.iconst 0, 1)] ⟨dX1_isOcc_54, rfl⟩ rfl ?_
        refine t_sub C (L' := []) [] rfl ?_
        exact kj13 _ ((if_pos hc14).symm)
      · refine t_b C (pc' := 51) (L' := [(0, vA (some o)), (1, vI p0), (2, vI p1)]) (st' := [vI 1]) [(.iconst 1, 1)] ⟨dX1_isOcc_50, rfl⟩ rfl ?_
        refine t_goto C 55 dX1_isOcc_51 rfl ?_
        refine t_sub C (L' := []) [] rfl ?_
        exact kj13 _ ((if_neg hc14).symm)
  refine t_if_eq C 54 8 dX1_isOcc_5 rfl rfl (fun hc15 => ?_) (fun hc15 => ?_)
  · exact kx3 (Or.inl hc15)
  · refine t_b C (pc' := 9) (L' := [(0, vA (some o)), (1, vI p0), (2, vI p1)]) (st' := [vI p1]) [(.iload_n 2, 1)] ⟨dX1_isOcc_8, rfl⟩ rfl ?_
    refine t_if_lt C 54 12 dX1_isOcc_9 rfl rfl (fun hc16 => ?_) (fun hc16 => ?_)
    · exact kx3 (Or.inr hc16)
    · refine t_b C (pc' := 13) (L' := [(0, vA (some o)), (1, vI p0), (2, vI p1)]) (st' := [vA (some o)]) [(.aload_n 0, 1)] ⟨dX1_isOcc_12, rfl⟩ rfl ?_
      refine t_gA C 201 1 16 dX1_isOcc_13 rfl rfl rfl rfl rfl q2189 (fun _ _ _ => rfl) ?_
      refine t_b C (pc' := 21) (L' := [(0, vA (some o)), (1, vI p0), (2, vI p1)]) (st' := [vI (p1 / 8), vI p0, vA (some (o + 1 + 1))]) [(.iload_n 1, 1), (.iload_n 2, 1), (.bipush 8, 2), (.idiv, 1)] ⟨dX1_isOcc_16, dX1_isOcc_17, dX1_isOcc_18, dX1_isOcc_20, rfl⟩ rfl ?_
      exact ky4 (fun h0 => h0.elim hc15 hc16)
def wp_X1_isSelfIn (p0 : Int32) (T : TS) (Q : Int32 → TS → Prop) : Prop :=
  tlp (σ := Int32) (fun s1 T2 k1 =>
  tix 1 40 (32 + p0) ∧
  (((T2.a 1 (ni (32 + p0))) < s1 →
  Q 0 T2) ∧ (¬ (T2.a 1 (ni (32 + p0))) < s1 →
  wp_X1_symbolAt 1 p0 s1 T2 fun r5 T4 =>
  wp_X1_isSelf r5 T4 fun r7 T6 =>
  ((r7 = 0 →
  k1 (s1 + 1) T6) ∧ (¬ r7 = 0 →
  Q 1 T6))))) 0 T
theorem hd_X1_isSelfIn : yX1_isSelfIn.cls = RX1 ∧ yX1_isSelfIn.cls ≠ "java/lang/invoke/MethodHandle" ∧ yX1_isSelfIn.cls ≠ "java/lang/invoke/VarHandle" ∧ (parseMethodDescriptor yX1_isSelfIn.desc).map (fun d => d.parameters.length) = some 1 := by decide +kernel
theorem ok_X1_isSelfIn {l : Launch} {D : va_G} {s0 : S0} (hG : G0 D s0) {o : Nat} {p0 : Int32} {T : TS} {Q : Int32 → TS → Prop} (hw : wp_X1_isSelfIn p0 T Q) : OKt l D s0 o yX1_isSelfIn cX1_isSelfIn 3 (some .boolean) 3 64 [vA (some o), vI p0] T (TI Q) := by
  refine t_met hG rfl rfl (L0 := [(0, vA (some o)), (1, vI p0)]) rfl rfl ?_
  intro h K C
  unfold wp_X1_isSelfIn at hw
  refine t_b C (pc' := 2) (L' := [(2, vI 0), (0, vA (some o)), (1, vI p0)]) (st' := []) [(.iconst 0, 1), (.istore_n 2, 1)] ⟨dX1_isSelfIn_0, dX1_isSelfIn_1, rfl⟩ rfl ?_
  obtain ⟨I1, ⟨n1, hI1⟩, hB1⟩ := tlp.out hw
  refine t_sub C (L' := [(0, vA (some o)), (1, vI p0), (2, vI 0)]) [1, 2, 0] rfl ?_
  have key1 : ∀ (n : Nat) (s1 : Int32) (T2 : TS), I1 n s1 T2 → K 2 [(0, vA (some o)), (1, vI p0), (2, vI s1)] [] T2 := by
    intro n
    induction n using Nat.strongRecOn with
    | ind n ih1 =>
      intro s1 T2 hI
      replace hw := hB1 n s1 T2 hI
      refine t_b C (pc' := 4) (L' := [(0, vA (some o)), (1, vI p0), (2, vI s1)]) (st' := [vA (some o), vI s1]) [(.iload_n 2, 1), (.aload_n 0, 1)] ⟨dX1_isSelfIn_2, dX1_isSelfIn_3, rfl⟩ rfl ?_
      refine t_gA C 201 1 7 dX1_isSelfIn_4 rfl rfl rfl rfl rfl q2189 (fun _ _ _ => rfl) ?_
      refine t_b C (pc' := 11) (L' := [(0, vA (some o)), (1, vI p0), (2, vI s1)]) (st' := [vI (32 + p0), vA (some (o + 1 + 1)), vI s1]) [(.bipush 32, 2), (.iload_n 1, 1), (.iadd, 1)] ⟨dX1_isSelfIn_7, dX1_isSelfIn_9, dX1_isSelfIn_10, rfl⟩ rfl ?_
      refine t_iald C 12 dX1_isSelfIn_11 rfl hw.1 ?_
      replace hw := hw.2
      refine t_icmp_gt C 39 15 dX1_isSelfIn_12 rfl rfl (fun hc3 => ?_) (fun hc3 => ?_)
      · replace hw := hw.1 hc3
        refine t_b C (pc' := 40) (L' := [(0, vA (some o)), (1, vI p0), (2, vI s1)]) (st' := [vI 0]) [(.iconst 0, 1)] ⟨dX1_isSelfIn_39, rfl⟩ rfl ?_
        exact t_zret C dX1_isSelfIn_40 rfl ⟨_, rfl, hw⟩
      · replace hw := hw.2 hc3
        refine t_b C (pc' := 17) (L' := [(0, vA (some o)), (1, vI p0), (2, vI s1)]) (st' := [vA (some o), vA (some o)]) [(.aload_n 0, 1), (.aload_n 0, 1)] ⟨dX1_isSelfIn_15, dX1_isSelfIn_16, rfl⟩ rfl ?_
        refine t_gA C 201 1 20 dX1_isSelfIn_17 rfl rfl rfl rfl rfl q2189 (fun _ _ _ => rfl) ?_
        refine t_b C (pc' := 22) (L' := [(0, vA (some o)), (1, vI p0), (2, vI s1)]) (st' := [vI s1, vI p0, vA (some (o + 1 + 1)), vA (some o)]) [(.iload_n 1, 1), (.iload_n 2, 1)] ⟨dX1_isSelfIn_20, dX1_isSelfIn_21, rfl⟩ rfl ?_
        refine t_callSI C 25 [vA (some (o + 1 + 1)), vI p0, vI s1] [vA (some o)] dX1_isSelfIn_22 rfl (ok_X1_symbolAt hG hw) q2520 q2521 q159 q2522 hd_X1_symbolAt ⟨rfl, rfl, rfl⟩ (fun r5 T4 hw => ?_)
        refine t_callVI C 28 [vI r5] [] dX1_isSelfIn_25 rfl (ok_X1_isSelf hG hw) q2613 q2615 qs103 q159 q2616 hd_X1_isSelf ⟨rfl, rfl, rfl⟩ (fun r7 T6 hw => ?_)
        refine t_if_eq C 33 31 dX1_isSelfIn_28 rfl rfl (fun hc8 => ?_) (fun hc8 => ?_)
        · replace hw := hw.1 hc8
          refine t_b C (pc' := 36) (L' := [(2, vI (s1 + 1)), (0, vA (some o)), (1, vI p0)]) (st' := []) [(.iinc 2 1, 3)] ⟨dX1_isSelfIn_33, rfl⟩ rfl ?_
          refine t_goto C 2 dX1_isSelfIn_36 rfl ?_
          refine t_sub C (L' := [(0, vA (some o)), (1, vI p0), (2, vI (s1 + 1))]) [1, 2, 0] rfl ?_
          obtain ⟨m9, hm9, hw⟩ := hw
          exact ih1 m9 hm9 (s1 + 1) T6 hw
        · replace hw := hw.2 hc8
          refine t_b C (pc' := 32) (L' := [(0, vA (some o)), (1, vI p0), (2, vI s1)]) (st' := [vI 1]) [(.iconst 1, 1)] ⟨dX1_isSelfIn_31, rfl⟩ rfl ?_
          exact t_zret C dX1_isSelfIn_32 rfl ⟨_, rfl, hw⟩
  exact key1 n1 0 T hI1
def wp_X1_hangs (p0 : Int32) (p1 : Int32) (p2 : Int32) (p3 : Int32) (T : TS) (Q : Int32 → TS → Prop) : Prop :=
  wp_X1_isFrom p3 0 2 T fun r2 T1 =>
  ((r2 = 0 →
  wp_X1_refuse 1 T1 fun r79 T78 =>
  Q r79 T78) ∧ (¬ r2 = 0 →
  wp_X1_isOcc p0 p1 T1 fun r5 T4 =>
  ((r5 = 0 →
  wp_X1_refuse 4 T4 fun r8 T7 =>
  Q r8 T7) ∧ (¬ r5 = 0 →
  wp_X1_isOcc p0 p2 T4 fun r10 T9 =>
  ((r10 = 0 →
  wp_X1_refuse 4 T9 fun r77 T76 =>
  Q r77 T76) ∧ (¬ r10 = 0 →
  ((p3 = 2 →
  wp_X1_isSelfIn p0 T9 fun r43 T42 =>
  ((r43 = 0 →
  ((p3 = 0 →
  wp_X1_laysRules p0 T42 fun T65 =>
  tix 6 40 p1 ∧
  wp_X1_has (T65.a 6 (ni p1)) p2 T65 fun r68 T67 =>
  ∀ m69 : Int32, m69 = (if r68 = 0 then 0 else 1) →
  wp_X1_gives m69 T67 fun r72 T71 =>
  Q r72 T71) ∧ (¬ p3 = 0 →
  ((p3 = 1 →
  wp_X1_laysClosed p0 T42 fun T56 =>
  tix 6 40 p1 ∧
  wp_X1_has (T56.a 6 (ni p1)) p2 T56 fun r59 T58 =>
  ∀ m60 : Int32, m60 = (if r59 = 0 then 0 else 1) →
  wp_X1_gives m60 T58 fun r63 T62 =>
  Q r63 T62) ∧ (¬ p3 = 1 →
  wp_X1_laysOrdered p0 T42 fun T47 =>
  tix 6 40 p1 ∧
  wp_X1_has (T47.a 6 (ni p1)) p2 T47 fun r50 T49 =>
  ∀ m51 : Int32, m51 = (if r50 = 0 then 0 else 1) →
  wp_X1_gives m51 T49 fun r54 T53 =>
  Q r54 T53))))) ∧ (¬ r43 = 0 →
  wp_X1_refuse 7 T42 fun r75 T74 =>
  Q r75 T74))) ∧ (¬ p3 = 2 →
  ((p3 = 0 →
  wp_X1_laysRules p0 T9 fun T33 =>
  tix 6 40 p1 ∧
  wp_X1_has (T33.a 6 (ni p1)) p2 T33 fun r36 T35 =>
  ∀ m37 : Int32, m37 = (if r36 = 0 then 0 else 1) →
  wp_X1_gives m37 T35 fun r40 T39 =>
  Q r40 T39) ∧ (¬ p3 = 0 →
  ((p3 = 1 →
  wp_X1_laysClosed p0 T9 fun T24 =>
  tix 6 40 p1 ∧
  wp_X1_has (T24.a 6 (ni p1)) p2 T24 fun r27 T26 =>
  ∀ m28 : Int32, m28 = (if r27 = 0 then 0 else 1) →
  wp_X1_gives m28 T26 fun r31 T30 =>
  Q r31 T30) ∧ (¬ p3 = 1 →
  wp_X1_laysOrdered p0 T9 fun T15 =>
  tix 6 40 p1 ∧
  wp_X1_has (T15.a 6 (ni p1)) p2 T15 fun r18 T17 =>
  ∀ m19 : Int32, m19 = (if r18 = 0 then 0 else 1) →
  wp_X1_gives m19 T17 fun r22 T21 =>
  Q r22 T21))))))))))))
theorem hd_X1_hangs : yX1_hangs.cls = RX1 ∧ yX1_hangs.cls ≠ "java/lang/invoke/MethodHandle" ∧ yX1_hangs.cls ≠ "java/lang/invoke/VarHandle" ∧ (parseMethodDescriptor yX1_hangs.desc).map (fun d => d.parameters.length) = some 4 := by decide +kernel
theorem ok_X1_hangs {l : Launch} {D : va_G} {s0 : S0} (hG : G0 D s0) {o : Nat} {p0 : Int32} {p1 : Int32} {p2 : Int32} {p3 : Int32} {T : TS} {Q : Int32 → TS → Prop} (hw : wp_X1_hangs p0 p1 p2 p3 T Q) : OKt l D s0 o yX1_hangs cX1_hangs 5 (some .int) 8 181 [vA (some o), vI p0, vI p1, vI p2, vI p3] T (TI Q) := by
  refine t_met hG rfl rfl (L0 := [(0, vA (some o)), (1, vI p0), (2, vI p1), (3, vI p2), (4, vI p3)]) rfl rfl ?_
  intro h K C
  unfold wp_X1_hangs at hw
  refine t_b C (pc' := 4) (L' := [(0, vA (some o)), (1, vI p0), (2, vI p1), (3, vI p2), (4, vI p3)]) (st' := [vI 2, vI 0, vI p3]) [(.iload 4, 2), (.iconst 0, 1), (.iconst 2, 1)] ⟨dX1_hangs_0, dX1_hangs_2, dX1_hangs_3, rfl⟩ rfl ?_
  refine t_callSI C 7 [vI p3, vI 0, vI 2] [] dX1_hangs_4 rfl (ok_X1_isFrom hG hw) q2431 q2432 q159 q2433 hd_X1_isFrom ⟨rfl, rfl, rfl⟩ (fun r2 T1 hw => ?_)
  refine t_if_ne C 16 10 dX1_hangs_7 rfl rfl (fun hc3 => ?_) (fun hc3 => ?_)
  · replace hw := hw.2 hc3
    refine t_b C (pc' := 19) (L' := [(0, vA (some o)), (1, vI p0), (2, vI p1), (3, vI p2), (4, vI p3)]) (st' := [vI p1, vI p0, vA (some o)]) [(.aload_n 0, 1), (.iload_n 1, 1), (.iload_n 2, 1)] ⟨dX1_hangs_16, dX1_hangs_17, dX1_hangs_18, rfl⟩ rfl ?_
    refine t_callVI C 22 [vI p0, vI p1] [] dX1_hangs_19 rfl (ok_X1_isOcc hG hw) q2641 q2643 qs108 q159 q2644 hd_X1_isOcc ⟨rfl, rfl, rfl⟩ (fun r5 T4 hw => ?_)
    refine t_if_eq C 34 25 dX1_hangs_22 rfl rfl (fun hc6 => ?_) (fun hc6 => ?_)
    · replace hw := hw.1 hc6
      refine t_b C (pc' := 36) (L' := [(0, vA (some o)), (1, vI p0), (2, vI p1), (3, vI p2), (4, vI p3)]) (st' := [vI 4, vA (some o)]) [(.aload_n 0, 1), (.iconst 4, 1)] ⟨dX1_hangs_34, dX1_hangs_35, rfl⟩ rfl ?_
      refine t_callVI C 39 [vI 4] [] dX1_hangs_36 rfl (ok_X1_refuse hG hw) q2434 q2436 qs70 q159 q2437 hd_X1_refuse ⟨rfl, rfl, rfl⟩ (fun r8 T7 hw => ?_)
      exact t_iret C dX1_hangs_39 ⟨_, rfl, hw⟩
    · replace hw := hw.2 hc6
      refine t_b C (pc' := 28) (L' := [(0, vA (some o)), (1, vI p0), (2, vI p1), (3, vI p2), (4, vI p3)]) (st' := [vI p2, vI p0, vA (some o)]) [(.aload_n 0, 1), (.iload_n 1, 1), (.iload_n 3, 1)] ⟨dX1_hangs_25, dX1_hangs_26, dX1_hangs_27, rfl⟩ rfl ?_
      refine t_callVI C 31 [vI p0, vI p2] [] dX1_hangs_28 rfl (ok_X1_isOcc hG hw) q2641 q2643 qs108 q159 q2644 hd_X1_isOcc ⟨rfl, rfl, rfl⟩ (fun r10 T9 hw => ?_)
      refine t_if_ne C 40 34 dX1_hangs_31 rfl rfl (fun hc11 => ?_) (fun hc11 => ?_)
      · replace hw := hw.2 hc11
        refine t_b C (pc' := 43) (L' := [(0, vA (some o)), (1, vI p0), (2, vI p1), (3, vI p2), (4, vI p3)]) (st' := [vI 2, vI p3]) [(.iload 4, 2), (.iconst 2, 1)] ⟨dX1_hangs_40, dX1_hangs_42, rfl⟩ rfl ?_
        refine t_icmp_ne C 61 46 dX1_hangs_43 rfl rfl (fun hc12 => ?_) (fun hc12 => ?_)
        · replace hw := hw.2 hc12
          refine t_b C (pc' := 63) (L' := [(0, vA (some o)), (1, vI p0), (2, vI p1), (3, vI p2), (4, vI p3)]) (st' := [vI p3]) [(.iload 4, 2)] ⟨dX1_hangs_61, rfl⟩ rfl ?_
          refine t_if_ne C 74 66 dX1_hangs_63 rfl rfl (fun hc13 => ?_) (fun hc13 => ?_)
          · replace hw := hw.2 hc13
            refine t_b C (pc' := 77) (L' := [(0, vA (some o)), (1, vI p0), (2, vI p1), (3, vI p2), (4, vI p3)]) (st' := [vI 1, vI p3]) [(.iload 4, 2), (.iconst 1, 1)] ⟨dX1_hangs_74, dX1_hangs_76, rfl⟩ rfl ?_
            refine t_icmp_ne C 88 80 dX1_hangs_77 rfl rfl (fun hc14 => ?_) (fun hc14 => ?_)
            · replace hw := hw.2 hc14
              refine t_b C (pc' := 90) (L' := [(0, vA (some o)), (1, vI p0), (2, vI p1), (3, vI p2), (4, vI p3)]) (st' := [vI p0, vA (some o)]) [(.aload_n 0, 1), (.iload_n 1, 1)] ⟨dX1_hangs_88, dX1_hangs_89, rfl⟩ rfl ?_
              refine t_callVV C 93 [vI p0] [] dX1_hangs_90 rfl (ok_X1_laysOrdered hG hw) q2649 q2651 qs110 q159 q2652 hd_X1_laysOrdered ⟨rfl, rfl, rfl⟩ (fun T15 hw => ?_)
              refine t_b C (pc' := 95) (L' := [(0, vA (some o)), (1, vI p0), (2, vI p1), (3, vI p2), (4, vI p3)]) (st' := [vA (some o), vA (some o)]) [(.aload_n 0, 1), (.aload_n 0, 1)] ⟨dX1_hangs_93, dX1_hangs_94, rfl⟩ rfl ?_
              refine t_gA C 223 6 98 dX1_hangs_95 rfl rfl rfl rfl rfl q2211 (fun _ _ _ => rfl) ?_
              refine t_b C (pc' := 99) (L' := [(0, vA (some o)), (1, vI p0), (2, vI p1), (3, vI p2), (4, vI p3)]) (st' := [vI p1, vA (some (o + 1 + 6)), vA (some o)]) [(.iload_n 2, 1)] ⟨dX1_hangs_98, rfl⟩ rfl ?_
              refine t_iald C 100 dX1_hangs_99 rfl hw.1 ?_
              replace hw := hw.2
              refine t_b C (pc' := 101) (L' := [(0, vA (some o)), (1, vI p0), (2, vI p1), (3, vI p2), (4, vI p3)]) (st' := [vI p2, vI (T15.a 6 (ni p1)), vA (some o)]) [(.iload_n 3, 1)] ⟨dX1_hangs_100, rfl⟩ rfl ?_
              refine t_callSI C 104 [vI (T15.a 6 (ni p1)), vI p2] [vA (some o)] dX1_hangs_101 rfl (ok_X1_has hG hw) q2586 q2587 q159 q2588 hd_X1_has ⟨rfl, rfl, rfl⟩ (fun r18 T17 hw => ?_)
              have kj20 : ∀ (m19 : Int32), m19 = (if r18 = 0 then 0 else 1) → K 112 [] [vI m19, vA (some o)] T17 := by
                intro m19 em19
                replace hw := hw m19 em19
                refine t_callVI C 115 [vI m19] [] dX1_hangs_112 rfl (ok_X1_gives hG hw) q2589 q2591 qs100 q159 q2592 hd_X1_gives ⟨rfl, rfl, rfl⟩ (fun r22 T21 hw => ?_)
                exact t_iret C dX1_hangs_115 ⟨_, rfl, hw⟩
              refine t_if_eq C 111 107 dX1_hangs_104 rfl rfl (fun hc23 => ?_) (fun hc23 => ?_)
              · refine t_b C (pc' := 112) (L' := [(0, vA (some o)), (1, vI p0), (2, vI p1), (3, vI p2), (4, vI p3)]) (st' := [vI 0, vA (some o)]) [(.iconst 0, 1)] ⟨dX1_hangs_111, rfl⟩ rfl ?_
                refine t_sub C (L' := []) [] rfl ?_
                exact kj20 _ ((if_pos hc23).symm)
              · refine t_b C (pc' := 108) (L' := [(0, vA (some o)), (1, vI p0), (2, vI p1), (3, vI p2), (4, vI p3)]) (st' := [vI 1, vA (some o)]) [(.iconst 1, 1)] ⟨dX1_hangs_107, rfl⟩ rfl ?_
                refine t_goto C 112 dX1_hangs_108 rfl ?_
                refine t_sub C (L' := []) [] rfl ?_
                exact kj20 _ ((if_neg hc23).symm)
            · replace hw := hw.1 hc14
              refine t_b C (pc' := 82) (L' := [(0, vA (some o)), (1, vI p0), (2, vI p1), (3, vI p2), (4, vI p3)]) (st' := [vI p0, vA (some o)]) [(.aload_n 0, 1), (.iload_n 1, 1)] ⟨dX1_hangs_80, dX1_hangs_81, rfl⟩ rfl ?_
              refine t_callVV C 85 [vI p0] [] dX1_hangs_82 rfl (ok_X1_laysClosed hG hw) q2562 q2564 qs94 q159 q2565 hd_X1_laysClosed ⟨rfl, rfl, rfl⟩ (fun T24 hw => ?_)
              refine t_goto C 93 dX1_hangs_85 rfl ?_
              refine t_b C (pc' := 95) (L' := [(0, vA (some o)), (1, vI p0), (2, vI p1), (3, vI p2), (4, vI p3)]) (st' := [vA (some o), vA (some o)]) [(.aload_n 0, 1), (.aload_n 0, 1)] ⟨dX1_hangs_93, dX1_hangs_94, rfl⟩ rfl ?_
              refine t_gA C 223 6 98 dX1_hangs_95 rfl rfl rfl rfl rfl q2211 (fun _ _ _ => rfl) ?_
              refine t_b C (pc' := 99) (L' := [(0, vA (some o)), (1, vI p0), (2, vI p1), (3, vI p2), (4, vI p3)]) (st' := [vI p1, vA (some (o + 1 + 6)), vA (some o)]) [(.iload_n 2, 1)] ⟨dX1_hangs_98, rfl⟩ rfl ?_
              refine t_iald C 100 dX1_hangs_99 rfl hw.1 ?_
              replace hw := hw.2
              refine t_b C (pc' := 101) (L' := [(0, vA (some o)), (1, vI p0), (2, vI p1), (3, vI p2), (4, vI p3)]) (st' := [vI p2, vI (T24.a 6 (ni p1)), vA (some o)]) [(.iload_n 3, 1)] ⟨dX1_hangs_100, rfl⟩ rfl ?_
              refine t_callSI C 104 [vI (T24.a 6 (ni p1)), vI p2] [vA (some o)] dX1_hangs_101 rfl (ok_X1_has hG hw) q2586 q2587 q159 q2588 hd_X1_has ⟨rfl, rfl, rfl⟩ (fun r27 T26 hw => ?_)
              have kj29 : ∀ (m28 : Int32), m28 = (if r27 = 0 then 0 else 1) → K 112 [] [vI m28, vA (some o)] T26 := by
                intro m28 em28
                replace hw := hw m28 em28
                refine t_callVI C 115 [vI m28] [] dX1_hangs_112 rfl (ok_X1_gives hG hw) q2589 q2591 qs100 q159 q2592 hd_X1_gives ⟨rfl, rfl, rfl⟩ (fun r31 T30 hw => ?_)
                exact t_iret C dX1_hangs_115 ⟨_, rfl, hw⟩
              refine t_if_eq C 111 107 dX1_hangs_104 rfl rfl (fun hc32 => ?_) (fun hc32 => ?_)
              · refine t_b C (pc' := 112) (L' := [(0, vA (some o)), (1, vI p0), (2, vI p1), (3, vI p2), (4, vI p3)]) (st' := [vI 0, vA (some o)]) [(.iconst 0, 1)] ⟨dX1_hangs_111, rfl⟩ rfl ?_
                refine t_sub C (L' := []) [] rfl ?_
                exact kj29 _ ((if_pos hc32).symm)
              · refine t_b C (pc' := 108) (L' := [(0, vA (some o)), (1, vI p0), (2, vI p1), (3, vI p2), (4, vI p3)]) (st' := [vI 1, vA (some o)]) [(.iconst 1, 1)] ⟨dX1_hangs_107, rfl⟩ rfl ?_
                refine t_goto C 112 dX1_hangs_108 rfl ?_
                refine t_sub C (L' := []) [] rfl ?_
                exact kj29 _ ((if_neg hc32).symm)
          · replace hw := hw.1 hc13
            refine t_b C (pc' := 68) (L' := [(0, vA (some o)), (1, vI p0), (2, vI p1), (3, vI p2), (4, vI p3)]) (st' := [vI p0, vA (some o)]) [(.aload_n 0, 1), (.iload_n 1, 1)] ⟨dX1_hangs_66, dX1_hangs_67, rfl⟩ rfl ?_
            refine t_callVV C 71 [vI p0] [] dX1_hangs_68 rfl (ok_X1_laysRules hG hw) q2566 q2568 qs95 q159 q2569 hd_X1_laysRules ⟨rfl, rfl, rfl⟩ (fun T33 hw => ?_)
            refine t_goto C 93 dX1_hangs_71 rfl ?_
            refine t_b C (pc' := 95) (L' := [(0, vA (some o)), (1, vI p0), (2, vI p1), (3, vI p2), (4, vI p3)]) (st' := [vA (some o), vA (some o)]) [(.aload_n 0, 1), (.aload_n 0, 1)] ⟨dX1_hangs_93, dX1_hangs_94, rfl⟩ rfl ?_
            refine t_gA C 223 6 98 dX1_hangs_95 rfl rfl rfl rfl rfl q2211 (fun _ _ _ => rfl) ?_
            refine t_b C (pc' := 99) (L' := [(0, vA (some o)), (1, vI p0), (2, vI p1), (3, vI p2), (4, vI p3)]) (st' := [vI p1, vA (some (o + 1 + 6)), vA (some o)]) [(.iload_n 2, 1)] ⟨dX1_hangs_98, rfl⟩ rfl ?_
            refine t_iald C 100 dX1_hangs_99 rfl hw.1 ?_
            replace hw := hw.2
            refine t_b C (pc' := 101) (L' := [(0, vA (some o)), (1, vI p0), (2, vI p1), (3, vI p2), (4, vI p3)]) (st' := [vI p2, vI (T33.a 6 (ni p1)), vA (some o)]) [(.iload_n 3, 1)] ⟨dX1_hangs_100, rfl⟩ rfl ?_
            refine t_callSI C 104 [vI (T33.a 6 (ni p1)), vI p2] [vA (some o)] dX1_hangs_101 rfl (ok_X1_has hG hw) q2586 q2587 q159 q2588 hd_X1_has ⟨rfl, rfl, rfl⟩ (fun r36 T35 hw => ?_)
            have kj38 : ∀ (m37 : Int32), m37 = (if r36 = 0 then 0 else 1) → K 112 [] [vI m37, vA (some o)] T35 := by
              intro m37 em37
              replace hw := hw m37 em37
              refine t_callVI C 115 [vI m37] [] dX1_hangs_112 rfl (ok_X1_gives hG hw) q2589 q2591 qs100 q159 q2592 hd_X1_gives ⟨rfl, rfl, rfl⟩ (fun r40 T39 hw => ?_)
              exact t_iret C dX1_hangs_115 ⟨_, rfl, hw⟩
            refine t_if_eq C 111 107 dX1_hangs_104 rfl rfl (fun hc41 => ?_) (fun hc41 => ?_)
            · refine t_b C (pc' := 112) (L' := [(0, vA (some o)), (1, vI p0), (2, vI p1), (3, vI p2), (4, vI p3)]) (st' := [vI 0, vA (some o)]) [(.iconst 0, 1)] ⟨dX1_hangs_111, rfl⟩ rfl ?_
              refine t_sub C (L' := []) [] rfl ?_
              exact kj38 _ ((if_pos hc41).symm)
            · refine t_b C (pc' := 108) (L' := [(0, vA (some o)), (1, vI p0), (2, vI p1), (3, vI p2), (4, vI p3)]) (st' := [vI 1, vA (some o)]) [(.iconst 1, 1)] ⟨dX1_hangs_107, rfl⟩ rfl ?_
              refine t_goto C 112 dX1_hangs_108 rfl ?_
              refine t_sub C (L' := []) [] rfl ?_
              exact kj38 _ ((if_neg hc41).symm)
        · replace hw := hw.1 hc12
          refine t_b C (pc' := 48) (L' := [(0, vA (some o)), (1, vI p0), (2, vI p1), (3, vI p2), (4, vI p3)]) (st' := [vI p0, vA (some o)]) [(.aload_n 0, 1), (.iload_n 1, 1)] ⟨dX1_hangs_46, dX1_hangs_47, rfl⟩ rfl ?_
          refine t_callVI C 51 [vI p0] [] dX1_hangs_48 rfl (ok_X1_isSelfIn hG hw) q2645 q2647 qs109 q159 q2648 hd_X1_isSelfIn ⟨rfl, rfl, rfl⟩ (fun r43 T42 hw => ?_)
          refine t_if_eq C 61 54 dX1_hangs_51 rfl rfl (fun hc44 => ?_) (fun hc44 => ?_)
          · replace hw := hw.1 hc44
            refine t_b C (pc' := 63) (L' := [(0, vA (some o)), (1, vI p0), (2, vI p1), (3, vI p2), (4, vI p3)]) (st' := [vI p3]) [(.iload 4, 2)] ⟨dX1_hangs_61, rfl⟩ rfl ?_
            refine t_if_ne C 74 66 dX1_hangs_63 rfl rfl (fun hc45 => ?_) (fun hc45 => ?_)
            · replace hw := hw.2 hc45
              refine t_b C (pc' := 77) (L' := [(0, vA (some o)), (1, vI p0), (2, vI p1), (3, vI p2), (4, vI p3)]) (st' := [vI 1, vI p3]) [(.iload 4, 2), (.iconst 1, 1)] ⟨dX1_hangs_74, dX1_hangs_76, rfl⟩ rfl ?_
              refine t_icmp_ne C 88 80 dX1_hangs_77 rfl rfl (fun hc46 => ?_) (fun hc46 => ?_)
              · replace hw := hw.2 hc46
                refine t_b C (pc' := 90) (L' := [(0, vA (some o)), (1, vI p0), (2, vI p1), (3, vI p2), (4, vI p3)]) (st' := [vI p0, vA (some o)]) [(.aload_n 0, 1), (.iload_n 1, 1)] ⟨dX1_hangs_88, dX1_hangs_89, rfl⟩ rfl ?_
                refine t_callVV C 93 [vI p0] [] dX1_hangs_90 rfl (ok_X1_laysOrdered hG hw) q2649 q2651 qs110 q159 q2652 hd_X1_laysOrdered ⟨rfl, rfl, rfl⟩ (fun T47 hw => ?_)
                refine t_b C (pc' := 95) (L' := [(0, vA (some o)), (1, vI p0), (2, vI p1), (3, vI p2), (4, vI p3)]) (st' := [vA (some o), vA (some o)]) [(.aload_n 0, 1), (.aload_n 0, 1)] ⟨dX1_hangs_93, dX1_hangs_94, rfl⟩ rfl ?_
                refine t_gA C 223 6 98 dX1_hangs_95 rfl rfl rfl rfl rfl q2211 (fun _ _ _ => rfl) ?_
                refine t_b C (pc' := 99) (L' := [(0, vA (some o)), (1, vI p0), (2, vI p1), (3, vI p2), (4, vI p3)]) (st' := [vI p1, vA (some (o + 1 + 6)), vA (some o)]) [(.iload_n 2, 1)] ⟨dX1_hangs_98, rfl⟩ rfl ?_
                refine t_iald C 100 dX1_hangs_99 rfl hw.1 ?_
                replace hw := hw.2
                refine t_b C (pc' := 101) (L' := [(0, vA (some o)), (1, vI p0), (2, vI p1), (3, vI p2), (4, vI p3)]) (st' := [vI p2, vI (T47.a 6 (ni p1)), vA (some o)]) [(.iload_n 3, 1)] ⟨dX1_hangs_100, rfl⟩ rfl ?_
                refine t_callSI C 104 [vI (T47.a 6 (ni p1)), vI p2] [vA (some o)] dX1_hangs_101 rfl (ok_X1_has hG hw) q2586 q2587 q159 q2588 hd_X1_has ⟨rfl, rfl, rfl⟩ (fun r50 T49 hw => ?_)
                have kj52 : ∀ (m51 : Int32), m51 = (if r50 = 0 then 0 else 1) → K 112 [] [vI m51, vA (some o)] T49 := by
                  intro m51 em51
                  replace hw := hw m51 em51
                  refine t_callVI C 115 [vI m51] [] dX1_hangs_112 rfl (ok_X1_gives hG hw) q2589 q2591 qs100 q159 q2592 hd_X1_gives ⟨rfl, rfl, rfl⟩ (fun r54 T53 hw => ?_)
                  exact t_iret C dX1_hangs_115 ⟨_, rfl, hw⟩
                refine t_if_eq C 111 107 dX1_hangs_104 rfl rfl (fun hc55 => ?_) (fun hc55 => ?_)
                · refine t_b C (pc' := 112) (L' := [(0, vA (some o)), (1, vI p0), (2, vI p1), (3, vI p2), (4, vI p3)]) (st' := [vI 0, vA (some o)]) [(.iconst 0, 1)] ⟨dX1_hangs_111, rfl⟩ rfl ?_
                  refine t_sub C (L' := []) [] rfl ?_
                  exact kj52 _ ((if_pos hc55).symm)
                · refine t_b C (pc' := 108) (L' := [(0, vA (some o)), (1, vI p0), (2, vI p1), (3, vI p2), (4, vI p3)]) (st' := [vI 1, vA (some o)]) [(.iconst 1, 1)] ⟨dX1_hangs_107, rfl⟩ rfl ?_
                  refine t_goto C 112 dX1_hangs_108 rfl ?_
                  refine t_sub C (L' := []) [] rfl ?_
                  exact kj52 _ ((if_neg hc55).symm)
              · replace hw := hw.1 hc46
                refine t_b C (pc' := 82) (L' := [(0, vA (some o)), (1, vI p0), (2, vI p1), (3, vI p2), (4, vI p3)]) (st' := [vI p0, vA (some o)]) [(.aload_n 0, 1), (.iload_n 1, 1)] ⟨dX1_hangs_80, dX1_hangs_81, rfl⟩ rfl ?_
                refine t_callVV C 85 [vI p0] [] dX1_hangs_82 rfl (ok_X1_laysClosed hG hw) q2562 q2564 qs94 q159 q2565 hd_X1_laysClosed ⟨rfl, rfl, rfl⟩ (fun T56 hw => ?_)
                refine t_goto C 93 dX1_hangs_85 rfl ?_
                refine t_b C (pc' := 95) (L' := [(0, vA (some o)), (1, vI p0), (2, vI p1), (3, vI p2), (4, vI p3)]) (st' := [vA (some o), vA (some o)]) [(.aload_n 0, 1), (.aload_n 0, 1)] ⟨dX1_hangs_93, dX1_hangs_94, rfl⟩ rfl ?_
                refine t_gA C 223 6 98 dX1_hangs_95 rfl rfl rfl rfl rfl q2211 (fun _ _ _ => rfl) ?_
                refine t_b C (pc' := 99) (L' := [(0, vA (some o)), (1, vI p0), (2, vI p1), (3, vI p2), (4, vI p3)]) (st' := [vI p1, vA (some (o + 1 + 6)), vA (some o)]) [(.iload_n 2, 1)] ⟨dX1_hangs_98, rfl⟩ rfl ?_
                refine t_iald C 100 dX1_hangs_99 rfl hw.1 ?_
                replace hw := hw.2
                refine t_b C (pc' := 101) (L' := [(0, vA (some o)), (1, vI p0), (2, vI p1), (3, vI p2), (4, vI p3)]) (st' := [vI p2, vI (T56.a 6 (ni p1)), vA (some o)]) [(.iload_n 3, 1)] ⟨dX1_hangs_100, rfl⟩ rfl ?_
                refine t_callSI C 104 [vI (T56.a 6 (ni p1)), vI p2] [vA (some o)] dX1_hangs_101 rfl (ok_X1_has hG hw) q2586 q2587 q159 q2588 hd_X1_has ⟨rfl, rfl, rfl⟩ (fun r59 T58 hw => ?_)
                have kj61 : ∀ (m60 : Int32), m60 = (if r59 = 0 then 0 else 1) → K 112 [] [vI m60, vA (some o)] T58 := by
                  intro m60 em60
                  replace hw := hw m60 em60
                  refine t_callVI C 115 [vI m60] [] dX1_hangs_112 rfl (ok_X1_gives hG hw) q2589 q2591 qs100 q159 q2592 hd_X1_gives ⟨rfl, rfl, rfl⟩ (fun r63 T62 hw => ?_)
                  exact t_iret C dX1_hangs_115 ⟨_, rfl, hw⟩
                refine t_if_eq C 111 107 dX1_hangs_104 rfl rfl (fun hc64 => ?_) (fun hc64 => ?_)
                · refine t_b C (pc' := 112) (L' := [(0, vA (some o)), (1, vI p0), (2, vI p1), (3, vI p2), (4, vI p3)]) (st' := [vI 0, vA (some o)]) [(.iconst 0, 1)] ⟨dX1_hangs_111, rfl⟩ rfl ?_
                  refine t_sub C (L' := []) [] rfl ?_
                  exact kj61 _ ((if_pos hc64).symm)
                · refine t_b C (pc' := 108) (L' := [(0, vA (some o)), (1, vI p0), (2, vI p1), (3, vI p2), (4, vI p3)]) (st' := [vI 1, vA (some o)]) [(.iconst 1, 1)] ⟨dX1_hangs_107, rfl⟩ rfl ?_
                  refine t_goto C 112 dX1_hangs_108 rfl ?_
                  refine t_sub C (L' := []) [] rfl ?_
                  exact kj61 _ ((if_neg hc64).symm)
            · replace hw := hw.1 hc45
              refine t_b C (pc' := 68) (L' := [(0, vA (some o)), (1, vI p0), (2, vI p1), (3, vI p2), (4, vI p3)]) (st' := [vI p0, vA (some o)]) [(.aload_n 0, 1), (.iload_n 1, 1)] ⟨dX1_hangs_66, dX1_hangs_67, rfl⟩ rfl ?_
              refine t_callVV C 71 [vI p0] [] dX1_hangs_68 rfl (ok_X1_laysRules hG hw) q2566 q2568 qs95 q159 q2569 hd_X1_laysRules ⟨rfl, rfl, rfl⟩ (fun T65 hw => ?_)
              refine t_goto C 93 dX1_hangs_71 rfl ?_
              refine t_b C (pc' := 95) (L' := [(0, vA (some o)), (1, vI p0), (2, vI p1), (3, vI p2), (4, vI p3)]) (st' := [vA (some o), vA (some o)]) [(.aload_n 0, 1), (.aload_n 0, 1)] ⟨dX1_hangs_93, dX1_hangs_94, rfl⟩ rfl ?_
              refine t_gA C 223 6 98 dX1_hangs_95 rfl rfl rfl rfl rfl q2211 (fun _ _ _ => rfl) ?_
              refine t_b C (pc' := 99) (L' := [(0, vA (some o)), (1, vI p0), (2, vI p1), (3, vI p2), (4, vI p3)]) (st' := [vI p1, vA (some (o + 1 + 6)), vA (some o)]) [(.iload_n 2, 1)] ⟨dX1_hangs_98, rfl⟩ rfl ?_
              refine t_iald C 100 dX1_hangs_99 rfl hw.1 ?_
              replace hw := hw.2
              refine t_b C (pc' := 101) (L' := [(0, vA (some o)), (1, vI p0), (2, vI p1), (3, vI p2), (4, vI p3)]) (st' := [vI p2, vI (T65.a 6 (ni p1)), vA (some o)]) [(.iload_n 3, 1)] ⟨dX1_hangs_100, rfl⟩ rfl ?_
              refine t_callSI C 104 [vI (T65.a 6 (ni p1)), vI p2] [vA (some o)] dX1_hangs_101 rfl (ok_X1_has hG hw) q2586 q2587 q159 q2588 hd_X1_has ⟨rfl, rfl, rfl⟩ (fun r68 T67 hw => ?_)
              have kj70 : ∀ (m69 : Int32), m69 = (if r68 = 0 then 0 else 1) → K 112 [] [vI m69, vA (some o)] T67 := by
                intro m69 em69
                replace hw := hw m69 em69
                refine t_callVI C 115 [vI m69] [] dX1_hangs_112 rfl (ok_X1_gives hG hw) q2589 q2591 qs100 q159 q2592 hd_X1_gives ⟨rfl, rfl, rfl⟩ (fun r72 T71 hw => ?_)
                exact t_iret C dX1_hangs_115 ⟨_, rfl, hw⟩
              refine t_if_eq C 111 107 dX1_hangs_104 rfl rfl (fun hc73 => ?_) (fun hc73 => ?_)
              · refine t_b C (pc' := 112) (L' := [(0, vA (some o)), (1, vI p0), (2, vI p1), (3, vI p2), (4, vI p3)]) (st' := [vI 0, vA (some o)]) [(.iconst 0, 1)] ⟨dX1_hangs_111, rfl⟩ rfl ?_
                refine t_sub C (L' := []) [] rfl ?_
                exact kj70 _ ((if_pos hc73).symm)
              · refine t_b C (pc' := 108) (L' := [(0, vA (some o)), (1, vI p0), (2, vI p1), (3, vI p2), (4, vI p3)]) (st' := [vI 1, vA (some o)]) [(.iconst 1, 1)] ⟨dX1_hangs_107, rfl⟩ rfl ?_
                refine t_goto C 112 dX1_hangs_108 rfl ?_
                refine t_sub C (L' := []) [] rfl ?_
                exact kj70 _ ((if_neg hc73).symm)
          · replace hw := hw.2 hc44
            refine t_b C (pc' := 57) (L' := [(0, vA (some o)), (1, vI p0), (2, vI p1), (3, vI p2), (4, vI p3)]) (st' := [vI 7, vA (some o)]) [(.aload_n 0, 1), (.bipush 7, 2)] ⟨dX1_hangs_54, dX1_hangs_55, rfl⟩ rfl ?_
            refine t_callVI C 60 [vI 7] [] dX1_hangs_57 rfl (ok_X1_refuse hG hw) q2434 q2436 qs70 q159 q2437 hd_X1_refuse ⟨rfl, rfl, rfl⟩ (fun r75 T74 hw => ?_)
            exact t_iret C dX1_hangs_60 ⟨_, rfl, hw⟩
      · replace hw := hw.1 hc11
        refine t_b C (pc' := 36) (L' := [(0, vA (some o)), (1, vI p0), (2, vI p1), (3, vI p2), (4, vI p3)]) (st' := [vI 4, vA (some o)]) [(.aload_n 0, 1), (.iconst 4, 1)] ⟨dX1_hangs_34, dX1_hangs_35, rfl⟩ rfl ?_
        refine t_callVI C 39 [vI 4] [] dX1_hangs_36 rfl (ok_X1_refuse hG hw) q2434 q2436 qs70 q159 q2437 hd_X1_refuse ⟨rfl, rfl, rfl⟩ (fun r77 T76 hw => ?_)
        exact t_iret C dX1_hangs_39 ⟨_, rfl, hw⟩
  · replace hw := hw.1 hc3
    refine t_b C (pc' := 12) (L' := [(0, vA (some o)), (1, vI p0), (2, vI p1), (3, vI p2), (4, vI p3)]) (st' := [vI 1, vA (some o)]) [(.aload_n 0, 1), (.iconst 1, 1)] ⟨dX1_hangs_10, dX1_hangs_11, rfl⟩ rfl ?_
    refine t_callVI C 15 [vI 1] [] dX1_hangs_12 rfl (ok_X1_refuse hG hw) q2434 q2436 qs70 q159 q2437 hd_X1_refuse ⟨rfl, rfl, rfl⟩ (fun r79 T78 hw => ?_)
    exact t_iret C dX1_hangs_15 ⟨_, rfl, hw⟩
def wp_X1_isSymbol (p0 : Int32) (T : TS) (Q : Int32 → TS → Prop) : Prop :=
  (((T.s 209) = 0 →
  Q 0 T) ∧ (¬ (T.s 209) = 0 →
  tix 1 40 0 ∧
  wp_X1_isFrom p0 0 ((T.a 1 (ni 0)) - 1) T fun r3 T2 =>
  ∀ m4 : Int32, m4 = (if r3 = 0 then 0 else 1) →
  bz m4 ∧ Q m4 T2))
theorem hd_X1_isSymbol : yX1_isSymbol.cls = RX1 ∧ yX1_isSymbol.cls ≠ "java/lang/invoke/MethodHandle" ∧ yX1_isSymbol.cls ≠ "java/lang/invoke/VarHandle" ∧ (parseMethodDescriptor yX1_isSymbol.desc).map (fun d => d.parameters.length) = some 1 := by decide +kernel
theorem ok_X1_isSymbol {l : Launch} {D : va_G} {s0 : S0} (hG : G0 D s0) {o : Nat} {p0 : Int32} {T : TS} {Q : Int32 → TS → Prop} (hw : wp_X1_isSymbol p0 T Q) : OKt l D s0 o yX1_isSymbol cX1_isSymbol 2 (some .boolean) 1 22 [vA (some o), vI p0] T (TI Q) := by
  refine t_met hG rfl rfl (L0 := [(0, vA (some o)), (1, vI p0)]) rfl rfl ?_
  intro h K C
  unfold wp_X1_isSymbol at hw
  refine t_b C (pc' := 1) (L' := [(0, vA (some o)), (1, vI p0)]) (st' := [vA (some o)]) [(.aload_n 0, 1)] ⟨dX1_isSymbol_0, rfl⟩ rfl ?_
  refine t_gI C 209 4 dX1_isSymbol_1 rfl rfl rfl q2197 (fun _ _ _ => rfl) ?_
  refine t_if_eq C 27 7 dX1_isSymbol_4 rfl rfl (fun hc1 => ?_) (fun hc1 => ?_)
  · replace hw := hw.1 hc1
    refine t_b C (pc' := 28) (L' := [(0, vA (some o)), (1, vI p0)]) (st' := [vI 0]) [(.iconst 0, 1)] ⟨dX1_isSymbol_27, rfl⟩ rfl ?_
    exact t_zret C dX1_isSymbol_28 rfl ⟨_, rfl, hw⟩
  · replace hw := hw.2 hc1
    refine t_b C (pc' := 10) (L' := [(0, vA (some o)), (1, vI p0)]) (st' := [vA (some o), vI 0, vI p0]) [(.iload_n 1, 1), (.iconst 0, 1), (.aload_n 0, 1)] ⟨dX1_isSymbol_7, dX1_isSymbol_8, dX1_isSymbol_9, rfl⟩ rfl ?_
    refine t_gA C 201 1 13 dX1_isSymbol_10 rfl rfl rfl rfl rfl q2189 (fun _ _ _ => rfl) ?_
    refine t_b C (pc' := 14) (L' := [(0, vA (some o)), (1, vI p0)]) (st' := [vI 0, vA (some (o + 1 + 1)), vI 0, vI p0]) [(.iconst 0, 1)] ⟨dX1_isSymbol_13, rfl⟩ rfl ?_
    refine t_iald C 15 dX1_isSymbol_14 rfl hw.1 ?_
    replace hw := hw.2
    refine t_b C (pc' := 17) (L' := [(0, vA (some o)), (1, vI p0)]) (st' := [vI ((T.a 1 (ni 0)) - 1), vI 0, vI p0]) [(.iconst 1, 1), (.isub, 1)] ⟨dX1_isSymbol_15, dX1_isSymbol_16, rfl⟩ rfl ?_
    refine t_callSI C 20 [vI p0, vI 0, vI ((T.a 1 (ni 0)) - 1)] [] dX1_isSymbol_17 rfl (ok_X1_isFrom hG hw) q2431 q2432 q159 q2433 hd_X1_isFrom ⟨rfl, rfl, rfl⟩ (fun r3 T2 hw => ?_)
    have kj5 : ∀ (m4 : Int32), m4 = (if r3 = 0 then 0 else 1) → K 28 [] [vI m4] T2 := by
      intro m4 em4
      replace hw := hw m4 em4
      exact t_zret C dX1_isSymbol_28 (bz_n hw.1) ⟨_, rfl, hw.2⟩
    refine t_if_eq C 27 23 dX1_isSymbol_20 rfl rfl (fun hc6 => ?_) (fun hc6 => ?_)
    · refine t_b C (pc' := 28) (L' := [(0, vA (some o)), (1, vI p0)]) (st' := [vI 0]) [(.iconst 0, 1)] ⟨dX1_isSymbol_27, rfl⟩ rfl ?_
      refine t_sub C (L' := []) [] rfl ?_
      exact kj5 _ ((if_pos hc6).symm)
    · refine t_b C (pc' := 24) (L' := [(0, vA (some o)), (1, vI p0)]) (st' := [vI 1]) [(.iconst 1, 1)] ⟨dX1_isSymbol_23, rfl⟩ rfl ?_
      refine t_goto C 28 dX1_isSymbol_24 rfl ?_
      refine t_sub C (L' := []) [] rfl ?_
      exact kj5 _ ((if_neg hc6).symm)
def wp_X1_isAttribute (p0 : Int32) (p1 : Int32) (T : TS) (Q : Int32 → TS → Prop) : Prop :=
  wp_X1_isSymbol p0 T fun r2 T1 =>
  ((r2 = 0 →
  Q 0 T1) ∧ (¬ r2 = 0 →
  wp_X1_attributes p0 T1 fun r5 T4 =>
  wp_X1_isFrom p1 0 (r5 - 1) T4 fun r7 T6 =>
  ∀ m8 : Int32, m8 = (if r7 = 0 then 0 else 1) →
  bz m8 ∧ Q m8 T6))
theorem hd_X1_isAttribute : yX1_isAttribute.cls = RX1 ∧ yX1_isAttribute.cls ≠ "java/lang/invoke/MethodHandle" ∧ yX1_isAttribute.cls ≠ "java/lang/invoke/VarHandle" ∧ (parseMethodDescriptor yX1_isAttribute.desc).map (fun d => d.parameters.length) = some 2 := by decide +kernel
theorem ok_X1_isAttribute {l : Launch} {D : va_G} {s0 : S0} (hG : G0 D s0) {o : Nat} {p0 : Int32} {p1 : Int32} {T : TS} {Q : Int32 → TS → Prop} (hw : wp_X1_isAttribute p0 p1 T Q) : OKt l D s0 o yX1_isAttribute cX1_isAttribute 3 (some .boolean) 2 43 [vA (some o), vI p0, vI p1] T (TI Q) := by
  refine t_met hG rfl rfl (L0 := [(0, vA (some o)), (1, vI p0), (2, vI p1)]) rfl rfl ?_
  intro h K C
  unfold wp_X1_isAttribute at hw
  refine t_b C (pc' := 2) (L' := [(0, vA (some o)), (1, vI p0), (2, vI p1)]) (st' := [vI p0, vA (some o)]) [(.aload_n 0, 1), (.iload_n 1, 1)] ⟨dX1_isAttribute_0, dX1_isAttribute_1, rfl⟩ rfl ?_
  refine t_callVI C 5 [vI p0] [] dX1_isAttribute_2 rfl (ok_X1_isSymbol hG hw) q2609 q2611 qs102 q159 q2612 hd_X1_isSymbol ⟨rfl, rfl, rfl⟩ (fun r2 T1 hw => ?_)
  refine t_if_eq C 27 8 dX1_isAttribute_5 rfl rfl (fun hc3 => ?_) (fun hc3 => ?_)
  · replace hw := hw.1 hc3
    refine t_b C (pc' := 28) (L' := [(0, vA (some o)), (1, vI p0), (2, vI p1)]) (st' := [vI 0]) [(.iconst 0, 1)] ⟨dX1_isAttribute_27, rfl⟩ rfl ?_
    exact t_zret C dX1_isAttribute_28 rfl ⟨_, rfl, hw⟩
  · replace hw := hw.2 hc3
    refine t_b C (pc' := 12) (L' := [(0, vA (some o)), (1, vI p0), (2, vI p1)]) (st' := [vI p0, vA (some o), vI 0, vI p1]) [(.iload_n 2, 1), (.iconst 0, 1), (.aload_n 0, 1), (.iload_n 1, 1)] ⟨dX1_isAttribute_8, dX1_isAttribute_9, dX1_isAttribute_10, dX1_isAttribute_11, rfl⟩ rfl ?_
    refine t_callVI C 15 [vI p0] [vI 0, vI p1] dX1_isAttribute_12 rfl (ok_X1_attributes hG hw) q2578 q2580 qs98 q159 q2581 hd_X1_attributes ⟨rfl, rfl, rfl⟩ (fun r5 T4 hw => ?_)
    refine t_b C (pc' := 17) (L' := [(0, vA (some o)), (1, vI p0), (2, vI p1)]) (st' := [vI (r5 - 1), vI 0, vI p1]) [(.iconst 1, 1), (.isub, 1)] ⟨dX1_isAttribute_15, dX1_isAttribute_16, rfl⟩ rfl ?_
    refine t_callSI C 20 [vI p1, vI 0, vI (r5 - 1)] [] dX1_isAttribute_17 rfl (ok_X1_isFrom hG hw) q2431 q2432 q159 q2433 hd_X1_isFrom ⟨rfl, rfl, rfl⟩ (fun r7 T6 hw => ?_)
    have kj9 : ∀ (m8 : Int32), m8 = (if r7 = 0 then 0 else 1) → K 28 [] [vI m8] T6 := by
      intro m8 em8
      replace hw := hw m8 em8
      exact t_zret C dX1_isAttribute_28 (bz_n hw.1) ⟨_, rfl, hw.2⟩
    refine t_if_eq C 27 23 dX1_isAttribute_20 rfl rfl (fun hc10 => ?_) (fun hc10 => ?_)
    · refine t_b C (pc' := 28) (L' := [(0, vA (some o)), (1, vI p0), (2, vI p1)]) (st' := [vI 0]) [(.iconst 0, 1)] ⟨dX1_isAttribute_27, rfl⟩ rfl ?_
      refine t_sub C (L' := []) [] rfl ?_
      exact kj9 _ ((if_pos hc10).symm)
    · refine t_b C (pc' := 24) (L' := [(0, vA (some o)), (1, vI p0), (2, vI p1)]) (st' := [vI 1]) [(.iconst 1, 1)] ⟨dX1_isAttribute_23, rfl⟩ rfl ?_
      refine t_goto C 28 dX1_isAttribute_24 rfl ?_
      refine t_sub C (L' := []) [] rfl ?_
      exact kj9 _ ((if_neg hc10).symm)
def wp_X1_induced (p0 : Int32) (p1 : Int32) (p2 : Int32) (T : TS) (Q : Int32 → TS → Prop) : Prop :=
  wp_X1_isAttribute p0 p1 T fun r2 T1 =>
  ((r2 = 0 →
  wp_X1_refuse 4 T1 fun r5 T4 =>
  Q r5 T4) ∧ (¬ r2 = 0 →
  wp_X1_isAttribute p0 p2 T1 fun r7 T6 =>
  ((r7 = 0 →
  wp_X1_refuse 4 T6 fun r10 T9 =>
  Q r10 T9) ∧ (¬ r7 = 0 →
  tix 5 40 ((8 * p0) + p1) ∧
  wp_X1_has (T6.a 5 (ni ((8 * p0) + p1))) p2 T6 fun r12 T11 =>
  ∀ m13 : Int32, m13 = (if r12 = 0 then 0 else 1) →
  wp_X1_gives m13 T11 fun r16 T15 =>
  Q r16 T15))))
theorem hd_X1_induced : yX1_induced.cls = RX1 ∧ yX1_induced.cls ≠ "java/lang/invoke/MethodHandle" ∧ yX1_induced.cls ≠ "java/lang/invoke/VarHandle" ∧ (parseMethodDescriptor yX1_induced.desc).map (fun d => d.parameters.length) = some 3 := by decide +kernel
theorem ok_X1_induced {l : Launch} {D : va_G} {s0 : S0} (hG : G0 D s0) {o : Nat} {p0 : Int32} {p1 : Int32} {p2 : Int32} {T : TS} {Q : Int32 → TS → Prop} (hw : wp_X1_induced p0 p1 p2 T Q) : OKt l D s0 o yX1_induced cX1_induced 4 (some .int) 3 65 [vA (some o), vI p0, vI p1, vI p2] T (TI Q) := by
  refine t_met hG rfl rfl (L0 := [(0, vA (some o)), (1, vI p0), (2, vI p1), (3, vI p2)]) rfl rfl ?_
  intro h K C
  unfold wp_X1_induced at hw
  refine t_b C (pc' := 3) (L' := [(0, vA (some o)), (1, vI p0), (2, vI p1), (3, vI p2)]) (st' := [vI p1, vI p0, vA (some o)]) [(.aload_n 0, 1), (.iload_n 1, 1), (.iload_n 2, 1)] ⟨dX1_induced_0, dX1_induced_1, dX1_induced_2, rfl⟩ rfl ?_
  refine t_callVI C 6 [vI p0, vI p1] [] dX1_induced_3 rfl (ok_X1_isAttribute hG hw) q2665 q2667 qs113 q159 q2668 hd_X1_isAttribute ⟨rfl, rfl, rfl⟩ (fun r2 T1 hw => ?_)
  refine t_if_eq C 48 9 dX1_induced_6 rfl rfl (fun hc3 => ?_) (fun hc3 => ?_)
  · replace hw := hw.1 hc3
    refine t_b C (pc' := 50) (L' := [(0, vA (some o)), (1, vI p0), (2, vI p1), (3, vI p2)]) (st' := [vI 4, vA (some o)]) [(.aload_n 0, 1), (.iconst 4, 1)] ⟨dX1_induced_48, dX1_induced_49, rfl⟩ rfl ?_
    refine t_callVI C 53 [vI 4] [] dX1_induced_50 rfl (ok_X1_refuse hG hw) q2434 q2436 qs70 q159 q2437 hd_X1_refuse ⟨rfl, rfl, rfl⟩ (fun r5 T4 hw => ?_)
    exact t_iret C dX1_induced_53 ⟨_, rfl, hw⟩
  · replace hw := hw.2 hc3
    refine t_b C (pc' := 12) (L' := [(0, vA (some o)), (1, vI p0), (2, vI p1), (3, vI p2)]) (st' := [vI p2, vI p0, vA (some o)]) [(.aload_n 0, 1), (.iload_n 1, 1), (.iload_n 3, 1)] ⟨dX1_induced_9, dX1_induced_10, dX1_induced_11, rfl⟩ rfl ?_
    refine t_callVI C 15 [vI p0, vI p2] [] dX1_induced_12 rfl (ok_X1_isAttribute hG hw) q2665 q2667 qs113 q159 q2668 hd_X1_isAttribute ⟨rfl, rfl, rfl⟩ (fun r7 T6 hw => ?_)
    refine t_if_eq C 48 18 dX1_induced_15 rfl rfl (fun hc8 => ?_) (fun hc8 => ?_)
    · replace hw := hw.1 hc8
      refine t_b C (pc' := 50) (L' := [(0, vA (some o)), (1, vI p0), (2, vI p1), (3, vI p2)]) (st' := [vI 4, vA (some o)]) [(.aload_n 0, 1), (.iconst 4, 1)] ⟨dX1_induced_48, dX1_induced_49, rfl⟩ rfl ?_
      refine t_callVI C 53 [vI 4] [] dX1_induced_50 rfl (ok_X1_refuse hG hw) q2434 q2436 qs70 q159 q2437 hd_X1_refuse ⟨rfl, rfl, rfl⟩ (fun r10 T9 hw => ?_)
      exact t_iret C dX1_induced_53 ⟨_, rfl, hw⟩
    · replace hw := hw.2 hc8
      refine t_b C (pc' := 20) (L' := [(0, vA (some o)), (1, vI p0), (2, vI p1), (3, vI p2)]) (st' := [vA (some o), vA (some o)]) [(.aload_n 0, 1), (.aload_n 0, 1)] ⟨dX1_induced_18, dX1_induced_19, rfl⟩ rfl ?_
      refine t_gA C 222 5 23 dX1_induced_20 rfl rfl rfl rfl rfl q2210 (fun _ _ _ => rfl) ?_
      refine t_b C (pc' := 29) (L' := [(0, vA (some o)), (1, vI p0), (2, vI p1), (3, vI p2)]) (st' := [vI ((8 * p0) + p1), vA (some (o + 1 + 5)), vA (some o)]) [(.bipush 8, 2), (.iload_n 1, 1), (.imul, 1), (.iload_n 2, 1), (.iadd, 1)] ⟨dX1_induced_23, dX1_induced_25, dX1_induced_26, dX1_induced_27, dX1_induced_28, rfl⟩ rfl ?_
      refine t_iald C 30 dX1_induced_29 rfl hw.1 ?_
      replace hw := hw.2
      refine t_b C (pc' := 31) (L' := [(0, vA (some o)), (1, vI p0), (2, vI p1), (3, vI p2)]) (st' := [vI p2, vI (T6.a 5 (ni ((8 * p0) + p1))), vA (some o)]) [(.iload_n 3, 1)] ⟨dX1_induced_30, rfl⟩ rfl ?_
      refine t_callSI C 34 [vI (T6.a 5 (ni ((8 * p0) + p1))), vI p2] [vA (some o)] dX1_induced_31 rfl (ok_X1_has hG hw) q2586 q2587 q159 q2588 hd_X1_has ⟨rfl, rfl, rfl⟩ (fun r12 T11 hw => ?_)
      have kj14 : ∀ (m13 : Int32), m13 = (if r12 = 0 then 0 else 1) → K 42 [] [vI m13, vA (some o)] T11 := by
        intro m13 em13
        replace hw := hw m13 em13
        refine t_callVI C 45 [vI m13] [] dX1_induced_42 rfl (ok_X1_gives hG hw) q2589 q2591 qs100 q159 q2592 hd_X1_gives ⟨rfl, rfl, rfl⟩ (fun r16 T15 hw => ?_)
        refine t_goto C 53 dX1_induced_45 rfl ?_
        exact t_iret C dX1_induced_53 ⟨_, rfl, hw⟩
      refine t_if_eq C 41 37 dX1_induced_34 rfl rfl (fun hc17 => ?_) (fun hc17 => ?_)
      · refine t_b C (pc' := 42) (L' := [(0, vA (some o)), (1, vI p0), (2, vI p1), (3, vI p2)]) (st' := [vI 0, vA (some o)]) [(.iconst 0, 1)] ⟨dX1_induced_41, rfl⟩ rfl ?_
        refine t_sub C (L' := []) [] rfl ?_
        exact kj14 _ ((if_pos hc17).symm)
      · refine t_b C (pc' := 38) (L' := [(0, vA (some o)), (1, vI p0), (2, vI p1), (3, vI p2)]) (st' := [vI 1, vA (some o)]) [(.iconst 1, 1)] ⟨dX1_induced_37, rfl⟩ rfl ?_
        refine t_goto C 42 dX1_induced_38 rfl ?_
        refine t_sub C (L' := []) [] rfl ?_
        exact kj14 _ ((if_neg hc17).symm)
def wp_X1_insOf (p0 : Int32) (p1 : Int32) (p2 : Int32) (T : TS) (Q : Int32 → TS → Prop) : Prop :=
  tlp (σ := Int32 × Int32) (fun s1 T2 k1 =>
  tix 1 40 (4 + p1) ∧
  (((T2.a 1 (ni (4 + p1))) ≤ s1.2 →
  Q s1.1 T2) ∧ (¬ (T2.a 1 (ni (4 + p1))) ≤ s1.2 →
  tix 11 40 ((8 * p1) + s1.2) ∧
  ∀ m4 : Int32, m4 = (if (T2.a 11 (ni ((8 * p1) + s1.2))) = p2 then (jshl 1 ((8 * p0) + s1.2)) else 0) →
  k1 ((s1.1 ||| m4), (s1.2 + 1)) T2))) (0, 0) T
theorem hd_X1_insOf : yX1_insOf.cls = RX1 ∧ yX1_insOf.cls ≠ "java/lang/invoke/MethodHandle" ∧ yX1_insOf.cls ≠ "java/lang/invoke/VarHandle" ∧ (parseMethodDescriptor yX1_insOf.desc).map (fun d => d.parameters.length) = some 3 := by decide +kernel
theorem ok_X1_insOf {l : Launch} {D : va_G} {s0 : S0} (hG : G0 D s0) {o : Nat} {p0 : Int32} {p1 : Int32} {p2 : Int32} {T : TS} {Q : Int32 → TS → Prop} (hw : wp_X1_insOf p0 p1 p2 T Q) : OKt l D s0 o yX1_insOf cX1_insOf 6 (some .int) 0 0 [vA (some o), vI p0, vI p1, vI p2] T (TI Q) := by
  refine t_met hG rfl rfl (L0 := [(0, vA (some o)), (1, vI p0), (2, vI p1), (3, vI p2)]) rfl rfl ?_
  intro h K C
  unfold wp_X1_insOf at hw
  refine t_b C (pc' := 6) (L' := [(5, vI 0), (4, vI 0), (0, vA (some o)), (1, vI p0), (2, vI p1), (3, vI p2)]) (st' := []) [(.iconst 0, 1), (.istore 4, 2), (.iconst 0, 1), (.istore 5, 2)] ⟨dX1_insOf_0, dX1_insOf_1, dX1_insOf_3, dX1_insOf_4, rfl⟩ rfl ?_
  obtain ⟨I1, ⟨n1, hI1⟩, hB1⟩ := tlp.out hw
  refine t_sub C (L' := [(0, vA (some o)), (1, vI p0), (2, vI p1), (3, vI p2), (4, vI 0), (5, vI 0)]) [2, 3, 4, 5, 1, 0] rfl ?_
  have key1 : ∀ (n : Nat) (s1 : Int32 × Int32) (T2 : TS), I1 n s1 T2 → K 6 [(0, vA (some o)), (1, vI p0), (2, vI p1), (3, vI p2), (4, vI (s1.1)), (5, vI (s1.2))] [] T2 := by
    intro n
    induction n using Nat.strongRecOn with
    | ind n ih1 =>
      intro s1 T2 hI
      replace hw := hB1 n s1 T2 hI
      refine t_b C (pc' := 9) (L' := [(0, vA (some o)), (1, vI p0), (2, vI p1), (3, vI p2), (4, vI (s1.1)), (5, vI (s1.2))]) (st' := [vA (some o), vI (s1.2)]) [(.iload 5, 2), (.aload_n 0, 1)] ⟨dX1_insOf_6, dX1_insOf_8, rfl⟩ rfl ?_
      refine t_gA C 201 1 12 dX1_insOf_9 rfl rfl rfl rfl rfl q2189 (fun _ _ _ => rfl) ?_
      refine t_b C (pc' := 15) (L' := [(0, vA (some o)), (1, vI p0), (2, vI p1), (3, vI p2), (4, vI (s1.1)), (5, vI (s1.2))]) (st' := [vI (4 + p1), vA (some (o + 1 + 1)), vI (s1.2)]) [(.iconst 4, 1), (.iload_n 2, 1), (.iadd, 1)] ⟨dX1_insOf_12, dX1_insOf_13, dX1_insOf_14, rfl⟩ rfl ?_
      refine t_iald C 16 dX1_insOf_15 rfl hw.1 ?_
      replace hw := hw.2
      refine t_icmp_ge C 59 19 dX1_insOf_16 rfl rfl (fun hc3 => ?_) (fun hc3 => ?_)
      · replace hw := hw.1 hc3
        refine t_b C (pc' := 61) (L' := [(0, vA (some o)), (1, vI p0), (2, vI p1), (3, vI p2), (4, vI (s1.1)), (5, vI (s1.2))]) (st' := [vI (s1.1)]) [(.iload 4, 2)] ⟨dX1_insOf_59, rfl⟩ rfl ?_
        exact t_iret C dX1_insOf_61 ⟨_, rfl, hw⟩
      · replace hw := hw.2 hc3
        refine t_b C (pc' := 22) (L' := [(0, vA (some o)), (1, vI p0), (2, vI p1), (3, vI p2), (4, vI (s1.1)), (5, vI (s1.2))]) (st' := [vA (some o), vI (s1.1)]) [(.iload 4, 2), (.aload_n 0, 1)] ⟨dX1_insOf_19, dX1_insOf_21, rfl⟩ rfl ?_
        refine t_gA C 229 11 25 dX1_insOf_22 rfl rfl rfl rfl rfl q2217 (fun _ _ _ => rfl) ?_
        refine t_b C (pc' := 32) (L' := [(0, vA (some o)), (1, vI p0), (2, vI p1), (3, vI p2), (4, vI (s1.1)), (5, vI (s1.2))]) (st' := [vI ((8 * p1) + s1.2), vA (some (o + 1 + 11)), vI (s1.1)]) [(.bipush 8, 2), (.iload_n 2, 1), (.imul, 1), (.iload 5, 2), (.iadd, 1)] ⟨dX1_insOf_25, dX1_insOf_27, dX1_insOf_28, dX1_insOf_29, dX1_insOf_31, rfl⟩ rfl ?_
        refine t_iald C 33 dX1_insOf_32 rfl hw.1 ?_
        replace hw := hw.2
        refine t_b C (pc' := 34) (L' := [(0, vA (some o)), (1, vI p0), (2, vI p1), (3, vI p2), (4, vI (s1.1)), (5, vI (s1.2))]) (st' := [vI p2, vI (T2.a 11 (ni ((8 * p1) + s1.2))), vI (s1.1)]) [(.iload_n 3, 1)] ⟨dX1_insOf_33, rfl⟩ rfl ?_
        have kj5 : ∀ (m4 : Int32), m4 = (if (T2.a 11 (ni ((8 * p1) + s1.2))) = p2 then (jshl 1 ((8 * p0) + s1.2)) else 0) → K 50 [(0, vA (some o)), (1, vI p0), (2, vI p1), (3, vI p2), (5, vI (s1.2))] [vI m4, vI (s1.1)] T2 := by
          intro m4 em4
          replace hw := hw m4 em4
          refine t_b C (pc' := 56) (L' := [(5, vI (s1.2 + 1)), (4, vI (s1.1 ||| m4)), (0, vA (some o)), (1, vI p0), (2, vI p1), (3, vI p2)]) (st' := []) [(.ior, 1), (.istore 4, 2), (.iinc 5 1, 3)] ⟨dX1_insOf_50, dX1_insOf_51, dX1_insOf_53, rfl⟩ rfl ?_
          refine t_goto C 6 dX1_insOf_56 rfl ?_
          refine t_sub C (L' := [(0, vA (some o)), (1, vI p0), (2, vI p1), (3, vI p2), (4, vI (s1.1 ||| m4)), (5, vI (s1.2 + 1))]) [2, 3, 4, 5, 1, 0] rfl ?_
          obtain ⟨m9, hm9, hw⟩ := hw
          exact ih1 m9 hm9 ((s1.1 ||| m4), (s1.2 + 1)) T2 hw
        refine t_icmp_ne C 49 37 dX1_insOf_34 rfl rfl (fun hc6 => ?_) (fun hc6 => ?_)
        · refine t_b C (pc' := 50) (L' := [(0, vA (some o)), (1, vI p0), (2, vI p1), (3, vI p2), (4, vI (s1.1)), (5, vI (s1.2))]) (st' := [vI 0, vI (s1.1)]) [(.iconst 0, 1)] ⟨dX1_insOf_49, rfl⟩ rfl ?_
          refine t_sub C (L' := [(0, vA (some o)), (1, vI p0), (2, vI p1), (3, vI p2), (5, vI (s1.2))]) [0, 1, 2, 3, 5] rfl ?_
          exact kj5 _ ((if_neg hc6).symm)
        · refine t_b C (pc' := 46) (L' := [(0, vA (some o)), (1, vI p0), (2, vI p1), (3, vI p2), (4, vI (s1.1)), (5, vI (s1.2))]) (st' := [vI (jshl 1 ((8 * p0) + s1.2)), vI (s1.1)]) [(.iconst 1, 1), (.bipush 8, 2), (.iload_n 1, 1), (.imul, 1), (.iload 5, 2), (.iadd, 1), (.ishl, 1)] ⟨dX1_insOf_37, dX1_insOf_38, dX1_insOf_40, dX1_insOf_41, dX1_insOf_42, dX1_insOf_44, dX1_insOf_45, rfl⟩ rfl ?_
          refine t_goto C 50 dX1_insOf_46 rfl ?_
          refine t_sub C (L' := [(0, vA (some o)), (1, vI p0), (2, vI p1), (3, vI p2), (5, vI (s1.2))]) [0, 1, 2, 3, 5] rfl ?_
          exact kj5 _ ((if_pos hc6).symm)
  exact key1 n1 (0, 0) T hI1
def wp_X1_knot (p0 : Int32) (p1 : Int32) (p2 : Int32) (T : TS) (Q : Int32 → TS → Prop) : Prop :=
  wp_X1_isFrom p2 0 4 T fun r2 T1 =>
  ((r2 = 0 →
  wp_X1_refuse 1 T1 fun r46 T45 =>
  Q r46 T45) ∧ (¬ r2 = 0 →
  wp_X1_hasTree  T1 fun r5 T4 =>
  ((r5 = 0 →
  wp_X1_refuse 3 T4 fun r44 T43 =>
  Q r44 T43) ∧ (¬ r5 = 0 →
  wp_X1_isInstance p0 p1 T4 fun r8 T7 =>
  ((r8 = 0 →
  wp_X1_refuse 4 T7 fun r42 T41 =>
  Q r42 T41) ∧ (¬ r8 = 0 →
  tix 29 40 ((8 * p0) + p1) ∧
  (((T7.a 29 (ni ((8 * p0) + p1))) = (-1) →
  wp_X1_refuse 7 T7 fun r40 T39 =>
  Q r40 T39) ∧ (¬ (T7.a 29 (ni ((8 * p0) + p1))) = (-1) →
  tlp (σ := Int32 × Int32) (fun s11 T12 k11 =>
  (((8 * (T12.s 250)) ≤ s11.2 →
  (((p2 = 0) →
  wp_X1_gives (s11.1) T12 fun r16 T15 =>
  Q r16 T15) ∧ (¬ (p2 = 0) →
  (((p2 = 1) →
  tix 30 40 ((8 * p0) + p1) ∧
  wp_X1_gives (T12.a 30 (ni ((8 * p0) + p1))) T12 fun r20 T19 =>
  Q r20 T19) ∧ (¬ (p2 = 1) →
  (((p2 = 2) →
  tix 37 42 ((8 * p0) + p1) ∧
  ∀ m23 : Int32, m23 = (if (T12.a 37 (ni ((8 * p0) + p1))) = 0 then 0 else 1) →
  wp_X1_gives m23 T12 fun r26 T25 =>
  Q r26 T25) ∧ (¬ (p2 = 2) →
  (((p2 = 3) →
  tix 29 40 ((8 * p0) + p1) ∧
  wp_X1_gives ((T12.a 29 (ni ((8 * p0) + p1))) / 8) T12 fun r31 T30 =>
  Q r31 T30) ∧ (¬ (p2 = 3) →
  tix 29 40 ((8 * p0) + p1) ∧
  wp_X1_gives (jrem (T12.a 29 (ni ((8 * p0) + p1))) 8) T12 fun r34 T33 =>
  Q r34 T33))))))))) ∧ (¬ (8 * (T12.s 250)) ≤ s11.2 →
  tix 36 42 s11.2 ∧
  (((T12.a 36 (ni s11.2)) = 0 →
  k11 ((s11.1 + 0), (s11.2 + 1)) T12) ∧ (¬ (T12.a 36 (ni s11.2)) = 0 →
  tix 29 40 s11.2 ∧
  tix 29 40 ((8 * p0) + p1) ∧
  ∀ m36 : Int32, m36 = (if (T12.a 29 (ni s11.2)) = (T12.a 29 (ni ((8 * p0) + p1))) then 1 else 0) →
  k11 ((s11.1 + m36), (s11.2 + 1)) T12))))) (0, 0) T7))))))))
theorem hd_X1_knot : yX1_knot.cls = RX1 ∧ yX1_knot.cls ≠ "java/lang/invoke/MethodHandle" ∧ yX1_knot.cls ≠ "java/lang/invoke/VarHandle" ∧ (parseMethodDescriptor yX1_knot.desc).map (fun d => d.parameters.length) = some 3 := by decide +kernel
theorem ok_X1_knot {l : Launch} {D : va_G} {s0 : S0} (hG : G0 D s0) {o : Nat} {p0 : Int32} {p1 : Int32} {p2 : Int32} {T : TS} {Q : Int32 → TS → Prop} (hw : wp_X1_knot p0 p1 p2 T Q) : OKt l D s0 o yX1_knot cX1_knot 7 (some .int) 3 65 [vA (some o), vI p0, vI p1, vI p2] T (TI Q) := by
  refine t_met hG rfl rfl (L0 := [(0, vA (some o)), (1, vI p0), (2, vI p1), (3, vI p2)]) rfl rfl ?_
  intro h K C
  unfold wp_X1_knot at hw
  refine t_b C (pc' := 3) (L' := [(0, vA (some o)), (1, vI p0), (2, vI p1), (3, vI p2)]) (st' := [vI 4, vI 0, vI p2]) [(.iload_n 3, 1), (.iconst 0, 1), (.iconst 4, 1)] ⟨dX1_knot_0, dX1_knot_1, dX1_knot_2, rfl⟩ rfl ?_
  refine t_callSI C 6 [vI p2, vI 0, vI 4] [] dX1_knot_3 rfl (ok_X1_isFrom hG hw) q2431 q2432 q159 q2433 hd_X1_isFrom ⟨rfl, rfl, rfl⟩ (fun r2 T1 hw => ?_)
  refine t_if_ne C 15 9 dX1_knot_6 rfl rfl (fun hc3 => ?_) (fun hc3 => ?_)
  · replace hw := hw.2 hc3
    refine t_b C (pc' := 16) (L' := [(0, vA (some o)), (1, vI p0), (2, vI p1), (3, vI p2)]) (st' := [vA (some o)]) [(.aload_n 0, 1)] ⟨dX1_knot_15, rfl⟩ rfl ?_
    refine t_callVI C 19 [] [] dX1_knot_16 rfl (ok_X1_hasTree hG hw) q2849 q2851 qs148 q159 q2852 hd_X1_hasTree ⟨rfl, rfl, rfl⟩ (fun r5 T4 hw => ?_)
    refine t_if_ne C 28 22 dX1_knot_19 rfl rfl (fun hc6 => ?_) (fun hc6 => ?_)
    · replace hw := hw.2 hc6
      refine t_b C (pc' := 31) (L' := [(0, vA (some o)), (1, vI p0), (2, vI p1), (3, vI p2)]) (st' := [vI p1, vI p0, vA (some o)]) [(.aload_n 0, 1), (.iload_n 1, 1), (.iload_n 2, 1)] ⟨dX1_knot_28, dX1_knot_29, dX1_knot_30, rfl⟩ rfl ?_
      refine t_callVI C 34 [vI p0, vI p1] [] dX1_knot_31 rfl (ok_X1_isInstance hG hw) q2774 q2776 qs133 q159 q2777 hd_X1_isInstance ⟨rfl, rfl, rfl⟩ (fun r8 T7 hw => ?_)
      refine t_if_ne C 43 37 dX1_knot_34 rfl rfl (fun hc9 => ?_) (fun hc9 => ?_)
      · replace hw := hw.2 hc9
        refine t_b C (pc' := 52) (L' := [(4, vI ((8 * p0) + p1)), (0, vA (some o)), (1, vI p0), (2, vI p1), (3, vI p2)]) (st' := [vA (some o)]) [(.bipush 8, 2), (.iload_n 1, 1), (.imul, 1), (.iload_n 2, 1), (.iadd, 1), (.istore 4, 2), (.aload_n 0, 1)] ⟨dX1_knot_43, dX1_knot_45, dX1_knot_46, dX1_knot_47, dX1_knot_48, dX1_knot_49, dX1_knot_51, rfl⟩ rfl ?_
        refine t_gA C 259 29 55 dX1_knot_52 rfl rfl rfl rfl rfl q2247 (fun _ _ _ => rfl) ?_
        refine t_b C (pc' := 57) (L' := [(4, vI ((8 * p0) + p1)), (0, vA (some o)), (1, vI p0), (2, vI p1), (3, vI p2)]) (st' := [vI ((8 * p0) + p1), vA (some (o + 1 + 29))]) [(.iload 4, 2)] ⟨dX1_knot_55, rfl⟩ rfl ?_
        refine t_iald C 58 dX1_knot_57 rfl hw.1 ?_
        replace hw := hw.2
        refine t_b C (pc' := 59) (L' := [(4, vI ((8 * p0) + p1)), (0, vA (some o)), (1, vI p0), (2, vI p1), (3, vI p2)]) (st' := [vI (-1), vI (T7.a 29 (ni ((8 * p0) + p1)))]) [(.iconst (-1), 1)] ⟨dX1_knot_58, rfl⟩ rfl ?_
        refine t_icmp_ne C 69 62 dX1_knot_59 rfl rfl (fun hc10 => ?_) (fun hc10 => ?_)
        · replace hw := hw.2 hc10
          refine t_b C (pc' := 75) (L' := [(6, vI 0), (5, vI 0), (4, vI ((8 * p0) + p1)), (0, vA (some o)), (1, vI p0), (2, vI p1), (3, vI p2)]) (st' := []) [(.iconst 0, 1), (.istore 5, 2), (.iconst 0, 1), (.istore 6, 2)] ⟨dX1_knot_69, dX1_knot_70, dX1_knot_72, dX1_knot_73, rfl⟩ rfl ?_
          obtain ⟨I11, ⟨n11, hI11⟩, hB11⟩ := tlp.out hw
          refine t_sub C (L' := [(0, vA (some o)), (3, vI p2), (4, vI ((8 * p0) + p1)), (5, vI 0), (6, vI 0)]) [3, 6, 2, 1, 0] rfl ?_
          have key11 : ∀ (n : Nat) (s11 : Int32 × Int32) (T12 : TS), I11 n s11 T12 → K 75 [(0, vA (some o)), (3, vI p2), (4, vI ((8 * p0) + p1)), (5, vI (s11.1)), (6, vI (s11.2))] [] T12 := by
            intro n
            induction n using Nat.strongRecOn with
            | ind n ih11 =>
              intro s11 T12 hI
              replace hw := hB11 n s11 T12 hI
              refine t_b C (pc' := 80) (L' := [(0, vA (some o)), (3, vI p2), (4, vI ((8 * p0) + p1)), (5, vI (s11.1)), (6, vI (s11.2))]) (st' := [vA (some o), vI 8, vI (s11.2)]) [(.iload 6, 2), (.bipush 8, 2), (.aload_n 0, 1)] ⟨dX1_knot_75, dX1_knot_77, dX1_knot_79, rfl⟩ rfl ?_
              refine t_gI C 250 83 dX1_knot_80 rfl rfl rfl q2238 (fun _ _ _ => rfl) ?_
              refine t_b C (pc' := 84) (L' := [(0, vA (some o)), (3, vI p2), (4, vI ((8 * p0) + p1)), (5, vI (s11.1)), (6, vI (s11.2))]) (st' := [vI (8 * (T12.s 250)), vI (s11.2)]) [(.imul, 1)] ⟨dX1_knot_83, rfl⟩ rfl ?_
              refine t_icmp_ge C 130 87 dX1_knot_84 rfl rfl (fun hc13 => ?_) (fun hc13 => ?_)
              · replace hw := hw.1 hc13
                refine t_b C (pc' := 131) (L' := [(0, vA (some o)), (3, vI p2), (4, vI ((8 * p0) + p1)), (5, vI (s11.1)), (6, vI (s11.2))]) (st' := [vI p2]) [(.iload_n 3, 1)] ⟨dX1_knot_130, rfl⟩ rfl ?_
                have ks14 : (p2 = 0) → K 160 [(0, vA (some o)), (3, vI p2), (4, vI ((8 * p0) + p1)), (5, vI (s11.1)), (6, vI (s11.2))] [] T12 := by
                  intro hcc
                  replace hw := hw.1 hcc
                  refine t_b C (pc' := 163) (L' := [(0, vA (some o)), (3, vI p2), (4, vI ((8 * p0) + p1)), (5, vI (s11.1)), (6, vI (s11.2))]) (st' := [vI (s11.1), vA (some o)]) [(.aload_n 0, 1), (.iload 5, 2)] ⟨dX1_knot_160, dX1_knot_161, rfl⟩ rfl ?_
                  refine t_callVI C 166 [vI (s11.1)] [] dX1_knot_163 rfl (ok_X1_gives hG hw) q2589 q2591 qs100 q159 q2592 hd_X1_gives ⟨rfl, rfl, rfl⟩ (fun r16 T15 hw => ?_)
                  exact t_iret C dX1_knot_166 ⟨_, rfl, hw⟩
                by_cases hs17 : (p2 = 0)
                · refine t_tabIn C (v := 0) 160 dX1_knot_131 hs17 rfl rfl rfl rfl ?_
                  exact ks14 hs17
                replace hw := hw.2 hs17
                have ks18 : (p2 = 1) → K 167 [(0, vA (some o)), (3, vI p2), (4, vI ((8 * p0) + p1)), (5, vI (s11.1)), (6, vI (s11.2))] [] T12 := by
                  intro hcc
                  replace hw := hw.1 hcc
                  refine t_b C (pc' := 169) (L' := [(0, vA (some o)), (3, vI p2), (4, vI ((8 * p0) + p1)), (5, vI (s11.1)), (6, vI (s11.2))]) (st' := [vA (some o), vA (some o)]) [(.aload_n 0, 1), (.aload_n 0, 1)] ⟨dX1_knot_167, dX1_knot_168, rfl⟩ rfl ?_
                  refine t_gA C 260 30 172 dX1_knot_169 rfl rfl rfl rfl rfl q2248 (fun _ _ _ => rfl) ?_
                  refine t_b C (pc' := 174) (L' := [(0, vA (some o)), (3, vI p2), (4, vI ((8 * p0) + p1)), (5, vI (s11.1)), (6, vI (s11.2))]) (st' := [vI ((8 * p0) + p1), vA (some (o + 1 + 30)), vA (some o)]) [(.iload 4, 2)] ⟨dX1_knot_172, rfl⟩ rfl ?_
                  refine t_iald C 175 dX1_knot_174 rfl hw.1 ?_
                  replace hw := hw.2
                  refine t_callVI C 178 [vI (T12.a 30 (ni ((8 * p0) + p1)))] [] dX1_knot_175 rfl (ok_X1_gives hG hw) q2589 q2591 qs100 q159 q2592 hd_X1_gives ⟨rfl, rfl, rfl⟩ (fun r20 T19 hw => ?_)
                  exact t_iret C dX1_knot_178 ⟨_, rfl, hw⟩
                by_cases hs21 : (p2 = 1)
                · refine t_tabIn C (v := 1) 167 dX1_knot_131 hs21 rfl rfl rfl rfl ?_
                  exact ks18 hs21
                replace hw := hw.2 hs21
                have ks22 : (p2 = 2) → K 179 [(0, vA (some o)), (3, vI p2), (4, vI ((8 * p0) + p1)), (5, vI (s11.1)), (6, vI (s11.2))] [] T12 := by
                  intro hcc
                  replace hw := hw.1 hcc
                  refine t_b C (pc' := 181) (L' := [(0, vA (some o)), (3, vI p2), (4, vI ((8 * p0) + p1)), (5, vI (s11.1)), (6, vI (s11.2))]) (st' := [vA (some o), vA (some o)]) [(.aload_n 0, 1), (.aload_n 0, 1)] ⟨dX1_knot_179, dX1_knot_180, rfl⟩ rfl ?_
                  refine t_gA C 267 37 184 dX1_knot_181 rfl rfl rfl rfl rfl q2255 (fun _ _ _ => rfl) ?_
                  refine t_b C (pc' := 186) (L' := [(0, vA (some o)), (3, vI p2), (4, vI ((8 * p0) + p1)), (5, vI (s11.1)), (6, vI (s11.2))]) (st' := [vI ((8 * p0) + p1), vA (some (o + 1 + 37)), vA (some o)]) [(.iload 4, 2)] ⟨dX1_knot_184, rfl⟩ rfl ?_
                  refine t_zald C 187 dX1_knot_186 rfl hw.1 ?_
                  replace hw := hw.2
                  have kj24 : ∀ (m23 : Int32), m23 = (if (T12.a 37 (ni ((8 * p0) + p1))) = 0 then 0 else 1) → K 195 [] [vI m23, vA (some o)] T12 := by
                    intro m23 em23
                    replace hw := hw m23 em23
                    refine t_callVI C 198 [vI m23] [] dX1_knot_195 rfl (ok_X1_gives hG hw) q2589 q2591 qs100 q159 q2592 hd_X1_gives ⟨rfl, rfl, rfl⟩ (fun r26 T25 hw => ?_)
                    exact t_iret C dX1_knot_198 ⟨_, rfl, hw⟩
                  refine t_if_eq C 194 190 dX1_knot_187 rfl rfl (fun hc27 => ?_) (fun hc27 => ?_)
                  · refine t_b C (pc' := 195) (L' := [(0, vA (some o)), (3, vI p2), (4, vI ((8 * p0) + p1)), (5, vI (s11.1)), (6, vI (s11.2))]) (st' := [vI 0, vA (some o)]) [(.iconst 0, 1)] ⟨dX1_knot_194, rfl⟩ rfl ?_
                    refine t_sub C (L' := []) [] rfl ?_
                    exact kj24 _ ((if_pos hc27).symm)
                  · refine t_b C (pc' := 191) (L' := [(0, vA (some o)), (3, vI p2), (4, vI ((8 * p0) + p1)), (5, vI (s11.1)), (6, vI (s11.2))]) (st' := [vI 1, vA (some o)]) [(.iconst 1, 1)] ⟨dX1_knot_190, rfl⟩ rfl ?_
                    refine t_goto C 195 dX1_knot_191 rfl ?_
                    refine t_sub C (L' := []) [] rfl ?_
                    exact kj24 _ ((if_neg hc27).symm)
                by_cases hs28 : (p2 = 2)
                · refine t_tabIn C (v := 2) 179 dX1_knot_131 hs28 rfl rfl rfl rfl ?_
                  exact ks22 hs28
                replace hw := hw.2 hs28
                have ks29 : (p2 = 3) → K 199 [(0, vA (some o)), (3, vI p2), (4, vI ((8 * p0) + p1)), (5, vI (s11.1)), (6, vI (s11.2))] [] T12 := by
                  intro hcc
                  replace hw := hw.1 hcc
                  refine t_b C (pc' := 201) (L' := [(0, vA (some o)), (3, vI p2), (4, vI ((8 * p0) + p1)), (5, vI (s11.1)), (6, vI (s11.2))]) (st' := [vA (some o), vA (some o)]) [(.aload_n 0, 1), (.aload_n 0, 1)] ⟨dX1_knot_199, dX1_knot_200, rfl⟩ rfl ?_
                  refine t_gA C 259 29 204 dX1_knot_201 rfl rfl rfl rfl rfl q2247 (fun _ _ _ => rfl) ?_
                  refine t_b C (pc' := 206) (L' := [(0, vA (some o)), (3, vI p2), (4, vI ((8 * p0) + p1)), (5, vI (s11.1)), (6, vI (s11.2))]) (st' := [vI ((8 * p0) + p1), vA (some (o + 1 + 29)), vA (some o)]) [(.iload 4, 2)] ⟨dX1_knot_204, rfl⟩ rfl ?_
                  refine t_iald C 207 dX1_knot_206 rfl hw.1 ?_
                  replace hw := hw.2
                  refine t_b C (pc' := 210) (L' := [(0, vA (some o)), (3, vI p2), (4, vI ((8 * p0) + p1)), (5, vI (s11.1)), (6, vI (s11.2))]) (st' := [vI ((T12.a 29 (ni ((8 * p0) + p1))) / 8), vA (some o)]) [(.bipush 8, 2), (.idiv, 1)] ⟨dX1_knot_207, dX1_knot_209, rfl⟩ rfl ?_
                  refine t_callVI C 213 [vI ((T12.a 29 (ni ((8 * p0) + p1))) / 8)] [] dX1_knot_210 rfl (ok_X1_gives hG hw) q2589 q2591 qs100 q159 q2592 hd_X1_gives ⟨rfl, rfl, rfl⟩ (fun r31 T30 hw => ?_)
                  exact t_iret C dX1_knot_213 ⟨_, rfl, hw⟩
                by_cases hs32 : (p2 = 3)
                · refine t_tabIn C (v := 3) 199 dX1_knot_131 hs32 rfl rfl rfl rfl ?_
                  exact ks29 hs32
                replace hw := hw.2 hs32
                have ht0 : ¬ (p2).toInt = 0 := lv_neT hs17 (by decide)
                have ht1 : ¬ (p2).toInt = 1 := lv_neT hs21 (by decide)
                have ht2 : ¬ (p2).toInt = 2 := lv_neT hs28 (by decide)
                have ht3 : ¬ (p2).toInt = 3 := lv_neT hs32 (by decide)
                refine t_tabOut C 214 dX1_knot_131 (by omega) rfl ?_
                refine t_b C (pc' := 216) (L' := [(0, vA (some o)), (3, vI p2), (4, vI ((8 * p0) + p1)), (5, vI (s11.1)), (6, vI (s11.2))]) (st' := [vA (some o), vA (some o)]) [(.aload_n 0, 1), (.aload_n 0, 1)] ⟨dX1_knot_214, dX1_knot_215, rfl⟩ rfl ?_
                refine t_gA C 259 29 219 dX1_knot_216 rfl rfl rfl rfl rfl q2247 (fun _ _ _ => rfl) ?_
                refine t_b C (pc' := 221) (L' := [(0, vA (some o)), (3, vI p2), (4, vI ((8 * p0) + p1)), (5, vI (s11.1)), (6, vI (s11.2))]) (st' := [vI ((8 * p0) + p1), vA (some (o + 1 + 29)), vA (some o)]) [(.iload 4, 2)] ⟨dX1_knot_219, rfl⟩ rfl ?_
                refine t_iald C 222 dX1_knot_221 rfl hw.1 ?_
                replace hw := hw.2
                refine t_b C (pc' := 225) (L' := [(0, vA (some o)), (3, vI p2), (4, vI ((8 * p0) + p1)), (5, vI (s11.1)), (6, vI (s11.2))]) (st' := [vI (jrem (T12.a 29 (ni ((8 * p0) + p1))) 8), vA (some o)]) [(.bipush 8, 2), (.irem, 1)] ⟨dX1_knot_222, dX1_knot_224, rfl⟩ rfl ?_
                refine t_callVI C 228 [vI (jrem (T12.a 29 (ni ((8 * p0) + p1))) 8)] [] dX1_knot_225 rfl (ok_X1_gives hG hw) q2589 q2591 qs100 q159 q2592 hd_X1_gives ⟨rfl, rfl, rfl⟩ (fun r34 T33 hw => ?_)
                exact t_iret C dX1_knot_228 ⟨_, rfl, hw⟩
              · replace hw := hw.2 hc13
                refine t_b C (pc' := 90) (L' := [(0, vA (some o)), (3, vI p2), (4, vI ((8 * p0) + p1)), (5, vI (s11.1)), (6, vI (s11.2))]) (st' := [vA (some o), vI (s11.1)]) [(.iload 5, 2), (.aload_n 0, 1)] ⟨dX1_knot_87, dX1_knot_89, rfl⟩ rfl ?_
                refine t_gA C 266 36 93 dX1_knot_90 rfl rfl rfl rfl rfl q2254 (fun _ _ _ => rfl) ?_
                refine t_b C (pc' := 95) (L' := [(0, vA (some o)), (3, vI p2), (4, vI ((8 * p0) + p1)), (5, vI (s11.1)), (6, vI (s11.2))]) (st' := [vI (s11.2), vA (some (o + 1 + 36)), vI (s11.1)]) [(.iload 6, 2)] ⟨dX1_knot_93, rfl⟩ rfl ?_
                refine t_zald C 96 dX1_knot_95 rfl hw.1 ?_
                replace hw := hw.2
                refine t_if_eq C 120 99 dX1_knot_96 rfl rfl (fun hc35 => ?_) (fun hc35 => ?_)
                · replace hw := hw.1 hc35
                  refine t_b C (pc' := 127) (L' := [(6, vI (s11.2 + 1)), (5, vI (s11.1 + 0)), (0, vA (some o)), (3, vI p2), (4, vI ((8 * p0) + p1))]) (st' := []) [(.iconst 0, 1), (.iadd, 1), (.istore 5, 2), (.iinc 6 1, 3)] ⟨dX1_knot_120, dX1_knot_121, dX1_knot_122, dX1_knot_124, rfl⟩ rfl ?_
                  refine t_goto C 75 dX1_knot_127 rfl ?_
                  refine t_sub C (L' := [(0, vA (some o)), (3, vI p2), (4, vI ((8 * p0) + p1)), (5, vI (s11.1 + 0)), (6, vI (s11.2 + 1))]) [2, 3, 4, 1, 0] rfl ?_
                  obtain ⟨m9, hm9, hw⟩ := hw
                  exact ih11 m9 hm9 ((s11.1 + 0), (s11.2 + 1)) T12 hw
                · replace hw := hw.2 hc35
                  refine t_b C (pc' := 100) (L' := [(0, vA (some o)), (3, vI p2), (4, vI ((8 * p0) + p1)), (5, vI (s11.1)), (6, vI (s11.2))]) (st' := [vA (some o), vI (s11.1)]) [(.aload_n 0, 1)] ⟨dX1_knot_99, rfl⟩ rfl ?_
                  refine t_gA C 259 29 103 dX1_knot_100 rfl rfl rfl rfl rfl q2247 (fun _ _ _ => rfl) ?_
                  refine t_b C (pc' := 105) (L' := [(0, vA (some o)), (3, vI p2), (4, vI ((8 * p0) + p1)), (5, vI (s11.1)), (6, vI (s11.2))]) (st' := [vI (s11.2), vA (some (o + 1 + 29)), vI (s11.1)]) [(.iload 6, 2)] ⟨dX1_knot_103, rfl⟩ rfl ?_
                  refine t_iald C 106 dX1_knot_105 rfl hw.1 ?_
                  replace hw := hw.2
                  refine t_b C (pc' := 107) (L' := [(0, vA (some o)), (3, vI p2), (4, vI ((8 * p0) + p1)), (5, vI (s11.1)), (6, vI (s11.2))]) (st' := [vA (some o), vI (T12.a 29 (ni s11.2)), vI (s11.1)]) [(.aload_n 0, 1)] ⟨dX1_knot_106, rfl⟩ rfl ?_
                  refine t_gA C 259 29 110 dX1_knot_107 rfl rfl rfl rfl rfl q2247 (fun _ _ _ => rfl) ?_
                  refine t_b C (pc' := 112) (L' := [(0, vA (some o)), (3, vI p2), (4, vI ((8 * p0) + p1)), (5, vI (s11.1)), (6, vI (s11.2))]) (st' := [vI ((8 * p0) + p1), vA (some (o + 1 + 29)), vI (T12.a 29 (ni s11.2)), vI (s11.1)]) [(.iload 4, 2)] ⟨dX1_knot_110, rfl⟩ rfl ?_
                  refine t_iald C 113 dX1_knot_112 rfl hw.1 ?_
                  replace hw := hw.2
                  have kj37 : ∀ (m36 : Int32), m36 = (if (T12.a 29 (ni s11.2)) = (T12.a 29 (ni ((8 * p0) + p1))) then 1 else 0) → K 121 [(0, vA (some o)), (3, vI p2), (4, vI ((8 * p0) + p1)), (6, vI (s11.2))] [vI m36, vI (s11.1)] T12 := by
                    intro m36 em36
                    replace hw := hw m36 em36
                    refine t_b C (pc' := 127) (L' := [(6, vI (s11.2 + 1)), (5, vI (s11.1 + m36)), (0, vA (some o)), (3, vI p2), (4, vI ((8 * p0) + p1))]) (st' := []) [(.iadd, 1), (.istore 5, 2), (.iinc 6 1, 3)] ⟨dX1_knot_121, dX1_knot_122, dX1_knot_124, rfl⟩ rfl ?_
                    refine t_goto C 75 dX1_knot_127 rfl ?_
                    refine t_sub C (L' := [(0, vA (some o)), (3, vI p2), (4, vI ((8 * p0) + p1)), (5, vI (s11.1 + m36)), (6, vI (s11.2 + 1))]) [2, 3, 4, 1, 0] rfl ?_
                    obtain ⟨m9, hm9, hw⟩ := hw
                    exact ih11 m9 hm9 ((s11.1 + m36), (s11.2 + 1)) T12 hw
                  refine t_icmp_ne C 120 116 dX1_knot_113 rfl rfl (fun hc38 => ?_) (fun hc38 => ?_)
                  · refine t_b C (pc' := 121) (L' := [(0, vA (some o)), (3, vI p2), (4, vI ((8 * p0) + p1)), (5, vI (s11.1)), (6, vI (s11.2))]) (st' := [vI 0, vI (s11.1)]) [(.iconst 0, 1)] ⟨dX1_knot_120, rfl⟩ rfl ?_
                    refine t_sub C (L' := [(0, vA (some o)), (3, vI p2), (4, vI ((8 * p0) + p1)), (6, vI (s11.2))]) [0, 1, 2, 4] rfl ?_
                    exact kj37 _ ((if_neg hc38).symm)
                  · refine t_b C (pc' := 117) (L' := [(0, vA (some o)), (3, vI p2), (4, vI ((8 * p0) + p1)), (5, vI (s11.1)), (6, vI (s11.2))]) (st' := [vI 1, vI (s11.1)]) [(.iconst 1, 1)] ⟨dX1_knot_116, rfl⟩ rfl ?_
                    refine t_goto C 121 dX1_knot_117 rfl ?_
                    refine t_sub C (L' := [(0, vA (some o)), (3, vI p2), (4, vI ((8 * p0) + p1)), (6, vI (s11.2))]) [0, 1, 2, 4] rfl ?_
                    exact kj37 _ ((if_pos hc38).symm)
          exact key11 n11 (0, 0) T7 hI11
        · replace hw := hw.1 hc10
          refine t_b C (pc' := 65) (L' := [(4, vI ((8 * p0) + p1)), (0, vA (some o)), (1, vI p0), (2, vI p1), (3, vI p2)]) (st' := [vI 7, vA (some o)]) [(.aload_n 0, 1), (.bipush 7, 2)] ⟨dX1_knot_62, dX1_knot_63, rfl⟩ rfl ?_
          refine t_callVI C 68 [vI 7] [] dX1_knot_65 rfl (ok_X1_refuse hG hw) q2434 q2436 qs70 q159 q2437 hd_X1_refuse ⟨rfl, rfl, rfl⟩ (fun r40 T39 hw => ?_)
          exact t_iret C dX1_knot_68 ⟨_, rfl, hw⟩
      · replace hw := hw.1 hc9
        refine t_b C (pc' := 39) (L' := [(0, vA (some o)), (1, vI p0), (2, vI p1), (3, vI p2)]) (st' := [vI 4, vA (some o)]) [(.aload_n 0, 1), (.iconst 4, 1)] ⟨dX1_knot_37, dX1_knot_38, rfl⟩ rfl ?_
        refine t_callVI C 42 [vI 4] [] dX1_knot_39 rfl (ok_X1_refuse hG hw) q2434 q2436 qs70 q159 q2437 hd_X1_refuse ⟨rfl, rfl, rfl⟩ (fun r42 T41 hw => ?_)
        exact t_iret C dX1_knot_42 ⟨_, rfl, hw⟩
    · replace hw := hw.1 hc6
      refine t_b C (pc' := 24) (L' := [(0, vA (some o)), (1, vI p0), (2, vI p1), (3, vI p2)]) (st' := [vI 3, vA (some o)]) [(.aload_n 0, 1), (.iconst 3, 1)] ⟨dX1_knot_22, dX1_knot_23, rfl⟩ rfl ?_
      refine t_callVI C 27 [vI 3] [] dX1_knot_24 rfl (ok_X1_refuse hG hw) q2434 q2436 qs70 q159 q2437 hd_X1_refuse ⟨rfl, rfl, rfl⟩ (fun r44 T43 hw => ?_)
      exact t_iret C dX1_knot_27 ⟨_, rfl, hw⟩
  · replace hw := hw.1 hc3
    refine t_b C (pc' := 11) (L' := [(0, vA (some o)), (1, vI p0), (2, vI p1), (3, vI p2)]) (st' := [vI 1, vA (some o)]) [(.aload_n 0, 1), (.iconst 1, 1)] ⟨dX1_knot_9, dX1_knot_10, rfl⟩ rfl ?_
    refine t_callVI C 14 [vI 1] [] dX1_knot_11 rfl (ok_X1_refuse hG hw) q2434 q2436 qs70 q159 q2437 hd_X1_refuse ⟨rfl, rfl, rfl⟩ (fun r46 T45 hw => ?_)
    exact t_iret C dX1_knot_14 ⟨_, rfl, hw⟩
def wp_X1_knots  (T : TS) (Q : Int32 → TS → Prop) : Prop :=
  tlp (σ := Int32 × Int32) (fun s1 T2 k1 =>
  ((320 ≤ s1.2 →
  Q s1.1 T2) ∧ (¬ 320 ≤ s1.2 →
  tix 36 42 s1.2 ∧
  (((T2.a 36 (ni s1.2)) = 0 →
  k1 ((s1.1 + 0), (s1.2 + 1)) T2) ∧ (¬ (T2.a 36 (ni s1.2)) = 0 →
  tix 29 40 s1.2 ∧
  ∀ m5 : Int32, m5 = (if (T2.a 29 (ni s1.2)) = s1.2 then 1 else 0) →
  k1 ((s1.1 + m5), (s1.2 + 1)) T2))))) (0, 0) T
theorem hd_X1_knots : yX1_knots.cls = RX1 ∧ yX1_knots.cls ≠ "java/lang/invoke/MethodHandle" ∧ yX1_knots.cls ≠ "java/lang/invoke/VarHandle" ∧ (parseMethodDescriptor yX1_knots.desc).map (fun d => d.parameters.length) = some 0 := by decide +kernel
theorem ok_X1_knots {l : Launch} {D : va_G} {s0 : S0} (hG : G0 D s0) {o : Nat}  {T : TS} {Q : Int32 → TS → Prop} (hw : wp_X1_knots  T Q) : OKt l D s0 o yX1_knots cX1_knots 3 (some .int) 0 0 [vA (some o)] T (TI Q) := by
  refine t_met hG rfl rfl (L0 := [(0, vA (some o))]) rfl rfl ?_
  intro h K C
  unfold wp_X1_knots at hw
  refine t_b C (pc' := 4) (L' := [(2, vI 0), (1, vI 0), (0, vA (some o))]) (st' := []) [(.iconst 0, 1), (.istore_n 1, 1), (.iconst 0, 1), (.istore_n 2, 1)] ⟨dX1_knots_0, dX1_knots_1, dX1_knots_2, dX1_knots_3, rfl⟩ rfl ?_
  obtain ⟨I1, ⟨n1, hI1⟩, hB1⟩ := tlp.out hw
  refine t_sub C (L' := [(0, vA (some o)), (1, vI 0), (2, vI 0)]) [2, 1, 0] rfl ?_
  have key1 : ∀ (n : Nat) (s1 : Int32 × Int32) (T2 : TS), I1 n s1 T2 → K 4 [(0, vA (some o)), (1, vI (s1.1)), (2, vI (s1.2))] [] T2 := by
    intro n
    induction n using Nat.strongRecOn with
    | ind n ih1 =>
      intro s1 T2 hI
      replace hw := hB1 n s1 T2 hI
      refine t_b C (pc' := 8) (L' := [(0, vA (some o)), (1, vI (s1.1)), (2, vI (s1.2))]) (st' := [vI 320, vI (s1.2)]) [(.iload_n 2, 1), (.sipush 320, 3)] ⟨dX1_knots_4, dX1_knots_5, rfl⟩ rfl ?_
      refine t_icmp_ge C 44 11 dX1_knots_8 rfl rfl (fun hc3 => ?_) (fun hc3 => ?_)
      · replace hw := hw.1 hc3
        refine t_b C (pc' := 45) (L' := [(0, vA (some o)), (1, vI (s1.1)), (2, vI (s1.2))]) (st' := [vI (s1.1)]) [(.iload_n 1, 1)] ⟨dX1_knots_44, rfl⟩ rfl ?_
        exact t_iret C dX1_knots_45 ⟨_, rfl, hw⟩
      · replace hw := hw.2 hc3
        refine t_b C (pc' := 13) (L' := [(0, vA (some o)), (1, vI (s1.1)), (2, vI (s1.2))]) (st' := [vA (some o), vI (s1.1)]) [(.iload_n 1, 1), (.aload_n 0, 1)] ⟨dX1_knots_11, dX1_knots_12, rfl⟩ rfl ?_
        refine t_gA C 266 36 16 dX1_knots_13 rfl rfl rfl rfl rfl q2254 (fun _ _ _ => rfl) ?_
        refine t_b C (pc' := 17) (L' := [(0, vA (some o)), (1, vI (s1.1)), (2, vI (s1.2))]) (st' := [vI (s1.2), vA (some (o + 1 + 36)), vI (s1.1)]) [(.iload_n 2, 1)] ⟨dX1_knots_16, rfl⟩ rfl ?_
        refine t_zald C 18 dX1_knots_17 rfl hw.1 ?_
        replace hw := hw.2
        refine t_if_eq C 35 21 dX1_knots_18 rfl rfl (fun hc4 => ?_) (fun hc4 => ?_)
        · replace hw := hw.1 hc4
          refine t_b C (pc' := 41) (L' := [(2, vI (s1.2 + 1)), (1, vI (s1.1 + 0)), (0, vA (some o))]) (st' := []) [(.iconst 0, 1), (.iadd, 1), (.istore_n 1, 1), (.iinc 2 1, 3)] ⟨dX1_knots_35, dX1_knots_36, dX1_knots_37, dX1_knots_38, rfl⟩ rfl ?_
          refine t_goto C 4 dX1_knots_41 rfl ?_
          refine t_sub C (L' := [(0, vA (some o)), (1, vI (s1.1 + 0)), (2, vI (s1.2 + 1))]) [2, 1, 0] rfl ?_
          obtain ⟨m9, hm9, hw⟩ := hw
          exact ih1 m9 hm9 ((s1.1 + 0), (s1.2 + 1)) T2 hw
        · replace hw := hw.2 hc4
          refine t_b C (pc' := 22) (L' := [(0, vA (some o)), (1, vI (s1.1)), (2, vI (s1.2))]) (st' := [vA (some o), vI (s1.1)]) [(.aload_n 0, 1)] ⟨dX1_knots_21, rfl⟩ rfl ?_
          refine t_gA C 259 29 25 dX1_knots_22 rfl rfl rfl rfl rfl q2247 (fun _ _ _ => rfl) ?_
          refine t_b C (pc' := 26) (L' := [(0, vA (some o)), (1, vI (s1.1)), (2, vI (s1.2))]) (st' := [vI (s1.2), vA (some (o + 1 + 29)), vI (s1.1)]) [(.iload_n 2, 1)] ⟨dX1_knots_25, rfl⟩ rfl ?_
          refine t_iald C 27 dX1_knots_26 rfl hw.1 ?_
          replace hw := hw.2
          refine t_b C (pc' := 28) (L' := [(0, vA (some o)), (1, vI (s1.1)), (2, vI (s1.2))]) (st' := [vI (s1.2), vI (T2.a 29 (ni s1.2)), vI (s1.1)]) [(.iload_n 2, 1)] ⟨dX1_knots_27, rfl⟩ rfl ?_
          have kj6 : ∀ (m5 : Int32), m5 = (if (T2.a 29 (ni s1.2)) = s1.2 then 1 else 0) → K 36 [(0, vA (some o)), (2, vI (s1.2))] [vI m5, vI (s1.1)] T2 := by
            intro m5 em5
            replace hw := hw m5 em5
            refine t_b C (pc' := 41) (L' := [(2, vI (s1.2 + 1)), (1, vI (s1.1 + m5)), (0, vA (some o))]) (st' := []) [(.iadd, 1), (.istore_n 1, 1), (.iinc 2 1, 3)] ⟨dX1_knots_36, dX1_knots_37, dX1_knots_38, rfl⟩ rfl ?_
            refine t_goto C 4 dX1_knots_41 rfl ?_
            refine t_sub C (L' := [(0, vA (some o)), (1, vI (s1.1 + m5)), (2, vI (s1.2 + 1))]) [2, 1, 0] rfl ?_
            obtain ⟨m9, hm9, hw⟩ := hw
            exact ih1 m9 hm9 ((s1.1 + m5), (s1.2 + 1)) T2 hw
          refine t_icmp_ne C 35 31 dX1_knots_28 rfl rfl (fun hc7 => ?_) (fun hc7 => ?_)
          · refine t_b C (pc' := 36) (L' := [(0, vA (some o)), (1, vI (s1.1)), (2, vI (s1.2))]) (st' := [vI 0, vI (s1.1)]) [(.iconst 0, 1)] ⟨dX1_knots_35, rfl⟩ rfl ?_
            refine t_sub C (L' := [(0, vA (some o)), (2, vI (s1.2))]) [0, 2] rfl ?_
            exact kj6 _ ((if_neg hc7).symm)
          · refine t_b C (pc' := 32) (L' := [(0, vA (some o)), (1, vI (s1.1)), (2, vI (s1.2))]) (st' := [vI 1, vI (s1.1)]) [(.iconst 1, 1)] ⟨dX1_knots_31, rfl⟩ rfl ?_
            refine t_goto C 36 dX1_knots_32 rfl ?_
            refine t_sub C (L' := [(0, vA (some o)), (2, vI (s1.2))]) [0, 2] rfl ?_
            exact kj6 _ ((if_pos hc7).symm)
  exact key1 n1 (0, 0) T hI1
def wp_X1_nextChild (p0 : Int32) (p1 : Int32) (T : TS) (Q : Int32 → TS → Prop) : Prop :=
  tlp (σ := Int32) (fun s1 T2 k1 =>
  tix 1 40 (32 + p0) ∧
  (((T2.a 1 (ni (32 + p0))) < s1 →
  Q (-1) T2) ∧ (¬ (T2.a 1 (ni (32 + p0))) < s1 →
  wp_X1_symbolAt 1 p0 s1 T2 fun r5 T4 =>
  tix 14 40 s1 ∧
  tix 12 40 r5 ∧
  (((T4.a 14 (ni s1)) = (T4.a 12 (ni r5)) →
  k1 (s1 + 1) T4) ∧ (¬ (T4.a 14 (ni s1)) = (T4.a 12 (ni r5)) →
  tix 14 40 s1 ∧
  wp_X1_insOf s1 r5 ((T4.a 14 (ni s1)) + 1) T4 fun r8 T7 =>
  (((r8 &&& (p1 ^^^ (-1))) = 0 →
  Q s1 T7) ∧ (¬ (r8 &&& (p1 ^^^ (-1))) = 0 →
  k1 (s1 + 1) T7))))))) 1 T
theorem hd_X1_nextChild : yX1_nextChild.cls = RX1 ∧ yX1_nextChild.cls ≠ "java/lang/invoke/MethodHandle" ∧ yX1_nextChild.cls ≠ "java/lang/invoke/VarHandle" ∧ (parseMethodDescriptor yX1_nextChild.desc).map (fun d => d.parameters.length) = some 2 := by decide +kernel
theorem ok_X1_nextChild {l : Launch} {D : va_G} {s0 : S0} (hG : G0 D s0) {o : Nat} {p0 : Int32} {p1 : Int32} {T : TS} {Q : Int32 → TS → Prop} (hw : wp_X1_nextChild p0 p1 T Q) : OKt l D s0 o yX1_nextChild cX1_nextChild 5 (some .int) 1 25 [vA (some o), vI p0, vI p1] T (TI Q) := by
  refine t_met hG rfl rfl (L0 := [(0, vA (some o)), (1, vI p0), (2, vI p1)]) rfl rfl ?_
  intro h K C
  unfold wp_X1_nextChild at hw
  refine t_b C (pc' := 2) (L' := [(3, vI 1), (0, vA (some o)), (1, vI p0), (2, vI p1)]) (st' := []) [(.iconst 1, 1), (.istore_n 3, 1)] ⟨dX1_nextChild_0, dX1_nextChild_1, rfl⟩ rfl ?_
  obtain ⟨I1, ⟨n1, hI1⟩, hB1⟩ := tlp.out hw
  refine t_sub C (L' := [(0, vA (some o)), (1, vI p0), (2, vI p1), (3, vI 1)]) [1, 2, 3, 0] rfl ?_
  have key1 : ∀ (n : Nat) (s1 : Int32) (T2 : TS), I1 n s1 T2 → K 2 [(0, vA (some o)), (1, vI p0), (2, vI p1), (3, vI s1)] [] T2 := by
    intro n
    induction n using Nat.strongRecOn with
    | ind n ih1 =>
      intro s1 T2 hI
      replace hw := hB1 n s1 T2 hI
      refine t_b C (pc' := 4) (L' := [(0, vA (some o)), (1, vI p0), (2, vI p1), (3, vI s1)]) (st' := [vA (some o), vI s1]) [(.iload_n 3, 1), (.aload_n 0, 1)] ⟨dX1_nextChild_2, dX1_nextChild_3, rfl⟩ rfl ?_
      refine t_gA C 201 1 7 dX1_nextChild_4 rfl rfl rfl rfl rfl q2189 (fun _ _ _ => rfl) ?_
      refine t_b C (pc' := 11) (L' := [(0, vA (some o)), (1, vI p0), (2, vI p1), (3, vI s1)]) (st' := [vI (32 + p0), vA (some (o + 1 + 1)), vI s1]) [(.bipush 32, 2), (.iload_n 1, 1), (.iadd, 1)] ⟨dX1_nextChild_7, dX1_nextChild_9, dX1_nextChild_10, rfl⟩ rfl ?_
      refine t_iald C 12 dX1_nextChild_11 rfl hw.1 ?_
      replace hw := hw.2
      refine t_icmp_gt C 75 15 dX1_nextChild_12 rfl rfl (fun hc3 => ?_) (fun hc3 => ?_)
      · replace hw := hw.1 hc3
        refine t_b C (pc' := 76) (L' := [(0, vA (some o)), (1, vI p0), (2, vI p1), (3, vI s1)]) (st' := [vI (-1)]) [(.iconst (-1), 1)] ⟨dX1_nextChild_75, rfl⟩ rfl ?_
        exact t_iret C dX1_nextChild_76 ⟨_, rfl, hw⟩
      · replace hw := hw.2 hc3
        refine t_b C (pc' := 16) (L' := [(0, vA (some o)), (1, vI p0), (2, vI p1), (3, vI s1)]) (st' := [vA (some o)]) [(.aload_n 0, 1)] ⟨dX1_nextChild_15, rfl⟩ rfl ?_
        refine t_gA C 201 1 19 dX1_nextChild_16 rfl rfl rfl rfl rfl q2189 (fun _ _ _ => rfl) ?_
        refine t_b C (pc' := 21) (L' := [(0, vA (some o)), (1, vI p0), (2, vI p1), (3, vI s1)]) (st' := [vI s1, vI p0, vA (some (o + 1 + 1))]) [(.iload_n 1, 1), (.iload_n 3, 1)] ⟨dX1_nextChild_19, dX1_nextChild_20, rfl⟩ rfl ?_
        refine t_callSI C 24 [vA (some (o + 1 + 1)), vI p0, vI s1] [] dX1_nextChild_21 rfl (ok_X1_symbolAt hG hw) q2520 q2521 q159 q2522 hd_X1_symbolAt ⟨rfl, rfl, rfl⟩ (fun r5 T4 hw => ?_)
        refine t_b C (pc' := 27) (L' := [(4, vI r5), (0, vA (some o)), (1, vI p0), (2, vI p1), (3, vI s1)]) (st' := [vA (some o)]) [(.istore 4, 2), (.aload_n 0, 1)] ⟨dX1_nextChild_24, dX1_nextChild_26, rfl⟩ rfl ?_
        refine t_gA C 234 14 30 dX1_nextChild_27 rfl rfl rfl rfl rfl q2222 (fun _ _ _ => rfl) ?_
        refine t_b C (pc' := 31) (L' := [(4, vI r5), (0, vA (some o)), (1, vI p0), (2, vI p1), (3, vI s1)]) (st' := [vI s1, vA (some (o + 1 + 14))]) [(.iload_n 3, 1)] ⟨dX1_nextChild_30, rfl⟩ rfl ?_
        refine t_iald C 32 dX1_nextChild_31 rfl hw.1 ?_
        replace hw := hw.2
        refine t_b C (pc' := 33) (L' := [(4, vI r5), (0, vA (some o)), (1, vI p0), (2, vI p1), (3, vI s1)]) (st' := [vA (some o), vI (T4.a 14 (ni s1))]) [(.aload_n 0, 1)] ⟨dX1_nextChild_32, rfl⟩ rfl ?_
        refine t_gA C 230 12 36 dX1_nextChild_33 rfl rfl rfl rfl rfl q2218 (fun _ _ _ => rfl) ?_
        refine t_b C (pc' := 38) (L' := [(4, vI r5), (0, vA (some o)), (1, vI p0), (2, vI p1), (3, vI s1)]) (st' := [vI r5, vA (some (o + 1 + 12)), vI (T4.a 14 (ni s1))]) [(.iload 4, 2)] ⟨dX1_nextChild_36, rfl⟩ rfl ?_
        refine t_iald C 39 dX1_nextChild_38 rfl hw.1 ?_
        replace hw := hw.2
        refine t_icmp_ne C 45 42 dX1_nextChild_39 rfl rfl (fun hc6 => ?_) (fun hc6 => ?_)
        · replace hw := hw.2 hc6
          refine t_b C (pc' := 50) (L' := [(4, vI r5), (0, vA (some o)), (1, vI p0), (2, vI p1), (3, vI s1)]) (st' := [vA (some o), vI r5, vI s1, vA (some o)]) [(.aload_n 0, 1), (.iload_n 3, 1), (.iload 4, 2), (.aload_n 0, 1)] ⟨dX1_nextChild_45, dX1_nextChild_46, dX1_nextChild_47, dX1_nextChild_49, rfl⟩ rfl ?_
          refine t_gA C 234 14 53 dX1_nextChild_50 rfl rfl rfl rfl rfl q2222 (fun _ _ _ => rfl) ?_
          refine t_b C (pc' := 54) (L' := [(4, vI r5), (0, vA (some o)), (1, vI p0), (2, vI p1), (3, vI s1)]) (st' := [vI s1, vA (some (o + 1 + 14)), vI r5, vI s1, vA (some o)]) [(.iload_n 3, 1)] ⟨dX1_nextChild_53, rfl⟩ rfl ?_
          refine t_iald C 55 dX1_nextChild_54 rfl hw.1 ?_
          replace hw := hw.2
          refine t_b C (pc' := 57) (L' := [(4, vI r5), (0, vA (some o)), (1, vI p0), (2, vI p1), (3, vI s1)]) (st' := [vI ((T4.a 14 (ni s1)) + 1), vI r5, vI s1, vA (some o)]) [(.iconst 1, 1), (.iadd, 1)] ⟨dX1_nextChild_55, dX1_nextChild_56, rfl⟩ rfl ?_
          refine t_callVI C 60 [vI s1, vI r5, vI ((T4.a 14 (ni s1)) + 1)] [] dX1_nextChild_57 rfl (ok_X1_insOf hG hw) q2706 q2708 qs119 q159 q2709 hd_X1_insOf ⟨rfl, rfl, rfl⟩ (fun r8 T7 hw => ?_)
          refine t_b C (pc' := 64) (L' := [(4, vI r5), (0, vA (some o)), (1, vI p0), (2, vI p1), (3, vI s1)]) (st' := [vI (r8 &&& (p1 ^^^ (-1)))]) [(.iload_n 2, 1), (.iconst (-1), 1), (.ixor, 1), (.iand, 1)] ⟨dX1_nextChild_60, dX1_nextChild_61, dX1_nextChild_62, dX1_nextChild_63, rfl⟩ rfl ?_
          refine t_if_ne C 69 67 dX1_nextChild_64 rfl rfl (fun hc9 => ?_) (fun hc9 => ?_)
          · replace hw := hw.2 hc9
            refine t_b C (pc' := 72) (L' := [(3, vI (s1 + 1)), (4, vI r5), (0, vA (some o)), (1, vI p0), (2, vI p1)]) (st' := []) [(.iinc 3 1, 3)] ⟨dX1_nextChild_69, rfl⟩ rfl ?_
            refine t_goto C 2 dX1_nextChild_72 rfl ?_
            refine t_sub C (L' := [(0, vA (some o)), (1, vI p0), (2, vI p1), (3, vI (s1 + 1))]) [2, 3, 4, 0] rfl ?_
            obtain ⟨m9, hm9, hw⟩ := hw
            exact ih1 m9 hm9 (s1 + 1) T7 hw
          · replace hw := hw.1 hc9
            refine t_b C (pc' := 68) (L' := [(4, vI r5), (0, vA (some o)), (1, vI p0), (2, vI p1), (3, vI s1)]) (st' := [vI s1]) [(.iload_n 3, 1)] ⟨dX1_nextChild_67, rfl⟩ rfl ?_
            exact t_iret C dX1_nextChild_68 ⟨_, rfl, hw⟩
        · replace hw := hw.1 hc6
          refine t_goto C 69 dX1_nextChild_42 rfl ?_
          refine t_b C (pc' := 72) (L' := [(3, vI (s1 + 1)), (4, vI r5), (0, vA (some o)), (1, vI p0), (2, vI p1)]) (st' := []) [(.iinc 3 1, 3)] ⟨dX1_nextChild_69, rfl⟩ rfl ?_
          refine t_goto C 2 dX1_nextChild_72 rfl ?_
          refine t_sub C (L' := [(0, vA (some o)), (1, vI p0), (2, vI p1), (3, vI (s1 + 1))]) [2, 3, 4, 0] rfl ?_
          obtain ⟨m9, hm9, hw⟩ := hw
          exact ih1 m9 hm9 (s1 + 1) T4 hw
  exact key1 n1 1 T hI1
def wp_X1_nextRule (p0 : Int32) (p1 : Int32) (T : TS) (Q : Int32 → TS → Prop) : Prop :=
  tlp (σ := Int32) (fun s1 T2 k1 =>
  ((32 ≤ s1 →
  Q (-1) T2) ∧ (¬ 32 ≤ s1 →
  wp_X1_isOcc p0 s1 T2 fun r5 T4 =>
  ((r5 = 0 →
  k1 (s1 + 1) T4) ∧ (¬ r5 = 0 →
  wp_X1_canTell 1 p0 s1 T4 fun r8 T7 =>
  ((r8 = 0 →
  k1 (s1 + 1) T7) ∧ (¬ r8 = 0 →
  wp_X1_has p1 s1 T7 fun r11 T10 =>
  ((r11 = 0 →
  wp_X1_asks p0 s1 T10 fun r14 T13 =>
  (((r14 &&& (p1 ^^^ (-1))) = 0 →
  Q s1 T13) ∧ (¬ (r14 &&& (p1 ^^^ (-1))) = 0 →
  k1 (s1 + 1) T13))) ∧ (¬ r11 = 0 →
  k1 (s1 + 1) T10))))))))) 0 T
theorem hd_X1_nextRule : yX1_nextRule.cls = RX1 ∧ yX1_nextRule.cls ≠ "java/lang/invoke/MethodHandle" ∧ yX1_nextRule.cls ≠ "java/lang/invoke/VarHandle" ∧ (parseMethodDescriptor yX1_nextRule.desc).map (fun d => d.parameters.length) = some 2 := by decide +kernel
theorem ok_X1_nextRule {l : Launch} {D : va_G} {s0 : S0} (hG : G0 D s0) {o : Nat} {p0 : Int32} {p1 : Int32} {T : TS} {Q : Int32 → TS → Prop} (hw : wp_X1_nextRule p0 p1 T Q) : OKt l D s0 o yX1_nextRule cX1_nextRule 4 (some .int) 3 66 [vA (some o), vI p0, vI p1] T (TI Q) := by
  refine t_met hG rfl rfl (L0 := [(0, vA (some o)), (1, vI p0), (2, vI p1)]) rfl rfl ?_
  intro h K C
  unfold wp_X1_nextRule at hw
  refine t_b C (pc' := 2) (L' := [(3, vI 0), (0, vA (some o)), (1, vI p0), (2, vI p1)]) (st' := []) [(.iconst 0, 1), (.istore_n 3, 1)] ⟨dX1_nextRule_0, dX1_nextRule_1, rfl⟩ rfl ?_
  obtain ⟨I1, ⟨n1, hI1⟩, hB1⟩ := tlp.out hw
  refine t_sub C (L' := [(0, vA (some o)), (1, vI p0), (2, vI p1), (3, vI 0)]) [1, 2, 3, 0] rfl ?_
  have key1 : ∀ (n : Nat) (s1 : Int32) (T2 : TS), I1 n s1 T2 → K 2 [(0, vA (some o)), (1, vI p0), (2, vI p1), (3, vI s1)] [] T2 := by
    intro n
    induction n using Nat.strongRecOn with
    | ind n ih1 =>
      intro s1 T2 hI
      replace hw := hB1 n s1 T2 hI
      refine t_b C (pc' := 5) (L' := [(0, vA (some o)), (1, vI p0), (2, vI p1), (3, vI s1)]) (st' := [vI 32, vI s1]) [(.iload_n 3, 1), (.bipush 32, 2)] ⟨dX1_nextRule_2, dX1_nextRule_3, rfl⟩ rfl ?_
      refine t_icmp_ge C 58 8 dX1_nextRule_5 rfl rfl (fun hc3 => ?_) (fun hc3 => ?_)
      · replace hw := hw.1 hc3
        refine t_b C (pc' := 59) (L' := [(0, vA (some o)), (1, vI p0), (2, vI p1), (3, vI s1)]) (st' := [vI (-1)]) [(.iconst (-1), 1)] ⟨dX1_nextRule_58, rfl⟩ rfl ?_
        exact t_iret C dX1_nextRule_59 ⟨_, rfl, hw⟩
      · replace hw := hw.2 hc3
        refine t_b C (pc' := 11) (L' := [(0, vA (some o)), (1, vI p0), (2, vI p1), (3, vI s1)]) (st' := [vI s1, vI p0, vA (some o)]) [(.aload_n 0, 1), (.iload_n 1, 1), (.iload_n 3, 1)] ⟨dX1_nextRule_8, dX1_nextRule_9, dX1_nextRule_10, rfl⟩ rfl ?_
        refine t_callVI C 14 [vI p0, vI s1] [] dX1_nextRule_11 rfl (ok_X1_isOcc hG hw) q2641 q2643 qs108 q159 q2644 hd_X1_isOcc ⟨rfl, rfl, rfl⟩ (fun r5 T4 hw => ?_)
        refine t_if_eq C 52 17 dX1_nextRule_14 rfl rfl (fun hc6 => ?_) (fun hc6 => ?_)
        · replace hw := hw.1 hc6
          refine t_b C (pc' := 55) (L' := [(3, vI (s1 + 1)), (0, vA (some o)), (1, vI p0), (2, vI p1)]) (st' := []) [(.iinc 3 1, 3)] ⟨dX1_nextRule_52, rfl⟩ rfl ?_
          refine t_goto C 2 dX1_nextRule_55 rfl ?_
          refine t_sub C (L' := [(0, vA (some o)), (1, vI p0), (2, vI p1), (3, vI (s1 + 1))]) [1, 2, 3, 0] rfl ?_
          obtain ⟨m9, hm9, hw⟩ := hw
          exact ih1 m9 hm9 (s1 + 1) T4 hw
        · replace hw := hw.2 hc6
          refine t_b C (pc' := 18) (L' := [(0, vA (some o)), (1, vI p0), (2, vI p1), (3, vI s1)]) (st' := [vA (some o)]) [(.aload_n 0, 1)] ⟨dX1_nextRule_17, rfl⟩ rfl ?_
          refine t_gA C 201 1 21 dX1_nextRule_18 rfl rfl rfl rfl rfl q2189 (fun _ _ _ => rfl) ?_
          refine t_b C (pc' := 23) (L' := [(0, vA (some o)), (1, vI p0), (2, vI p1), (3, vI s1)]) (st' := [vI s1, vI p0, vA (some (o + 1 + 1))]) [(.iload_n 1, 1), (.iload_n 3, 1)] ⟨dX1_nextRule_21, dX1_nextRule_22, rfl⟩ rfl ?_
          refine t_callSI C 26 [vA (some (o + 1 + 1)), vI p0, vI s1] [] dX1_nextRule_23 rfl (ok_X1_canTell hG hw) q2523 q2524 q159 q2525 hd_X1_canTell ⟨rfl, rfl, rfl⟩ (fun r8 T7 hw => ?_)
          refine t_if_eq C 52 29 dX1_nextRule_26 rfl rfl (fun hc9 => ?_) (fun hc9 => ?_)
          · replace hw := hw.1 hc9
            refine t_b C (pc' := 55) (L' := [(3, vI (s1 + 1)), (0, vA (some o)), (1, vI p0), (2, vI p1)]) (st' := []) [(.iinc 3 1, 3)] ⟨dX1_nextRule_52, rfl⟩ rfl ?_
            refine t_goto C 2 dX1_nextRule_55 rfl ?_
            refine t_sub C (L' := [(0, vA (some o)), (1, vI p0), (2, vI p1), (3, vI (s1 + 1))]) [1, 2, 3, 0] rfl ?_
            obtain ⟨m9, hm9, hw⟩ := hw
            exact ih1 m9 hm9 (s1 + 1) T7 hw
          · replace hw := hw.2 hc9
            refine t_b C (pc' := 31) (L' := [(0, vA (some o)), (1, vI p0), (2, vI p1), (3, vI s1)]) (st' := [vI s1, vI p1]) [(.iload_n 2, 1), (.iload_n 3, 1)] ⟨dX1_nextRule_29, dX1_nextRule_30, rfl⟩ rfl ?_
            refine t_callSI C 34 [vI p1, vI s1] [] dX1_nextRule_31 rfl (ok_X1_has hG hw) q2586 q2587 q159 q2588 hd_X1_has ⟨rfl, rfl, rfl⟩ (fun r11 T10 hw => ?_)
            refine t_if_ne C 52 37 dX1_nextRule_34 rfl rfl (fun hc12 => ?_) (fun hc12 => ?_)
            · replace hw := hw.2 hc12
              refine t_b C (pc' := 55) (L' := [(3, vI (s1 + 1)), (0, vA (some o)), (1, vI p0), (2, vI p1)]) (st' := []) [(.iinc 3 1, 3)] ⟨dX1_nextRule_52, rfl⟩ rfl ?_
              refine t_goto C 2 dX1_nextRule_55 rfl ?_
              refine t_sub C (L' := [(0, vA (some o)), (1, vI p0), (2, vI p1), (3, vI (s1 + 1))]) [1, 2, 3, 0] rfl ?_
              obtain ⟨m9, hm9, hw⟩ := hw
              exact ih1 m9 hm9 (s1 + 1) T10 hw
            · replace hw := hw.1 hc12
              refine t_b C (pc' := 40) (L' := [(0, vA (some o)), (1, vI p0), (2, vI p1), (3, vI s1)]) (st' := [vI s1, vI p0, vA (some o)]) [(.aload_n 0, 1), (.iload_n 1, 1), (.iload_n 3, 1)] ⟨dX1_nextRule_37, dX1_nextRule_38, dX1_nextRule_39, rfl⟩ rfl ?_
              refine t_callVI C 43 [vI p0, vI s1] [] dX1_nextRule_40 rfl (ok_X1_asks hG hw) q2570 q2572 qs96 q159 q2573 hd_X1_asks ⟨rfl, rfl, rfl⟩ (fun r14 T13 hw => ?_)
              refine t_b C (pc' := 47) (L' := [(0, vA (some o)), (1, vI p0), (2, vI p1), (3, vI s1)]) (st' := [vI (r14 &&& (p1 ^^^ (-1)))]) [(.iload_n 2, 1), (.iconst (-1), 1), (.ixor, 1), (.iand, 1)] ⟨dX1_nextRule_43, dX1_nextRule_44, dX1_nextRule_45, dX1_nextRule_46, rfl⟩ rfl ?_
              refine t_if_ne C 52 50 dX1_nextRule_47 rfl rfl (fun hc15 => ?_) (fun hc15 => ?_)
              · replace hw := hw.2 hc15
                refine t_b C (pc' := 55) (L' := [(3, vI (s1 + 1)), (0, vA (some o)), (1, vI p0), (2, vI p1)]) (st' := []) [(.iinc 3 1, 3)] ⟨dX1_nextRule_52, rfl⟩ rfl ?_
                refine t_goto C 2 dX1_nextRule_55 rfl ?_
                refine t_sub C (L' := [(0, vA (some o)), (1, vI p0), (2, vI p1), (3, vI (s1 + 1))]) [1, 2, 3, 0] rfl ?_
                obtain ⟨m9, hm9, hw⟩ := hw
                exact ih1 m9 hm9 (s1 + 1) T13 hw
              · replace hw := hw.1 hc15
                refine t_b C (pc' := 51) (L' := [(0, vA (some o)), (1, vI p0), (2, vI p1), (3, vI s1)]) (st' := [vI s1]) [(.iload_n 3, 1)] ⟨dX1_nextRule_50, rfl⟩ rfl ?_
                exact t_iret C dX1_nextRule_51 ⟨_, rfl, hw⟩
  exact key1 n1 0 T hI1
def wp_X1_outsOf (p0 : Int32) (p1 : Int32) (p2 : Int32) (T : TS) (Q : Int32 → TS → Prop) : Prop :=
  tix 1 40 (4 + p1) ∧
  tlp (σ := Int32 × Int32) (fun s1 T2 k1 =>
  wp_X1_attributes p1 T2 fun r4 T3 =>
  ((r4 ≤ s1.2 →
  Q s1.1 T3) ∧ (¬ r4 ≤ s1.2 →
  tix 11 40 ((8 * p1) + s1.2) ∧
  ∀ m6 : Int32, m6 = (if (T3.a 11 (ni ((8 * p1) + s1.2))) = p2 then (jshl 1 ((8 * p0) + s1.2)) else 0) →
  k1 ((s1.1 ||| m6), (s1.2 + 1)) T3))) (0, (T.a 1 (ni (4 + p1)))) T
theorem hd_X1_outsOf : yX1_outsOf.cls = RX1 ∧ yX1_outsOf.cls ≠ "java/lang/invoke/MethodHandle" ∧ yX1_outsOf.cls ≠ "java/lang/invoke/VarHandle" ∧ (parseMethodDescriptor yX1_outsOf.desc).map (fun d => d.parameters.length) = some 3 := by decide +kernel
theorem ok_X1_outsOf {l : Launch} {D : va_G} {s0 : S0} (hG : G0 D s0) {o : Nat} {p0 : Int32} {p1 : Int32} {p2 : Int32} {T : TS} {Q : Int32 → TS → Prop} (hw : wp_X1_outsOf p0 p1 p2 T Q) : OKt l D s0 o yX1_outsOf cX1_outsOf 6 (some .int) 2 42 [vA (some o), vI p0, vI p1, vI p2] T (TI Q) := by
  refine t_met hG rfl rfl (L0 := [(0, vA (some o)), (1, vI p0), (2, vI p1), (3, vI p2)]) rfl rfl ?_
  intro h K C
  unfold wp_X1_outsOf at hw
  refine t_b C (pc' := 4) (L' := [(4, vI 0), (0, vA (some o)), (1, vI p0), (2, vI p1), (3, vI p2)]) (st' := [vA (some o)]) [(.iconst 0, 1), (.istore 4, 2), (.aload_n 0, 1)] ⟨dX1_outsOf_0, dX1_outsOf_1, dX1_outsOf_3, rfl⟩ rfl ?_
  refine t_gA C 201 1 7 dX1_outsOf_4 rfl rfl rfl rfl rfl q2189 (fun _ _ _ => rfl) ?_
  refine t_b C (pc' := 10) (L' := [(4, vI 0), (0, vA (some o)), (1, vI p0), (2, vI p1), (3, vI p2)]) (st' := [vI (4 + p1), vA (some (o + 1 + 1))]) [(.iconst 4, 1), (.iload_n 2, 1), (.iadd, 1)] ⟨dX1_outsOf_7, dX1_outsOf_8, dX1_outsOf_9, rfl⟩ rfl ?_
  refine t_iald C 11 dX1_outsOf_10 rfl hw.1 ?_
  replace hw := hw.2
  refine t_b C (pc' := 13) (L' := [(5, vI (T.a 1 (ni (4 + p1)))), (4, vI 0), (0, vA (some o)), (1, vI p0), (2, vI p1), (3, vI p2)]) (st' := []) [(.istore 5, 2)] ⟨dX1_outsOf_11, rfl⟩ rfl ?_
  obtain ⟨I1, ⟨n1, hI1⟩, hB1⟩ := tlp.out hw
  refine t_sub C (L' := [(0, vA (some o)), (1, vI p0), (2, vI p1), (3, vI p2), (4, vI 0), (5, vI (T.a 1 (ni (4 + p1))))]) [2, 3, 4, 5, 1, 0] rfl ?_
  have key1 : ∀ (n : Nat) (s1 : Int32 × Int32) (T2 : TS), I1 n s1 T2 → K 13 [(0, vA (some o)), (1, vI p0), (2, vI p1), (3, vI p2), (4, vI (s1.1)), (5, vI (s1.2))] [] T2 := by
    intro n
    induction n using Nat.strongRecOn with
    | ind n ih1 =>
      intro s1 T2 hI
      replace hw := hB1 n s1 T2 hI
      refine t_b C (pc' := 17) (L' := [(0, vA (some o)), (1, vI p0), (2, vI p1), (3, vI p2), (4, vI (s1.1)), (5, vI (s1.2))]) (st' := [vI p1, vA (some o), vI (s1.2)]) [(.iload 5, 2), (.aload_n 0, 1), (.iload_n 2, 1)] ⟨dX1_outsOf_13, dX1_outsOf_15, dX1_outsOf_16, rfl⟩ rfl ?_
      refine t_callVI C 20 [vI p1] [vI (s1.2)] dX1_outsOf_17 rfl (ok_X1_attributes hG hw) q2578 q2580 qs98 q159 q2581 hd_X1_attributes ⟨rfl, rfl, rfl⟩ (fun r4 T3 hw => ?_)
      refine t_icmp_ge C 63 23 dX1_outsOf_20 rfl rfl (fun hc5 => ?_) (fun hc5 => ?_)
      · replace hw := hw.1 hc5
        refine t_b C (pc' := 65) (L' := [(0, vA (some o)), (1, vI p0), (2, vI p1), (3, vI p2), (4, vI (s1.1)), (5, vI (s1.2))]) (st' := [vI (s1.1)]) [(.iload 4, 2)] ⟨dX1_outsOf_63, rfl⟩ rfl ?_
        exact t_iret C dX1_outsOf_65 ⟨_, rfl, hw⟩
      · replace hw := hw.2 hc5
        refine t_b C (pc' := 26) (L' := [(0, vA (some o)), (1, vI p0), (2, vI p1), (3, vI p2), (4, vI (s1.1)), (5, vI (s1.2))]) (st' := [vA (some o), vI (s1.1)]) [(.iload 4, 2), (.aload_n 0, 1)] ⟨dX1_outsOf_23, dX1_outsOf_25, rfl⟩ rfl ?_
        refine t_gA C 229 11 29 dX1_outsOf_26 rfl rfl rfl rfl rfl q2217 (fun _ _ _ => rfl) ?_
        refine t_b C (pc' := 36) (L' := [(0, vA (some o)), (1, vI p0), (2, vI p1), (3, vI p2), (4, vI (s1.1)), (5, vI (s1.2))]) (st' := [vI ((8 * p1) + s1.2), vA (some (o + 1 + 11)), vI (s1.1)]) [(.bipush 8, 2), (.iload_n 2, 1), (.imul, 1), (.iload 5, 2), (.iadd, 1)] ⟨dX1_outsOf_29, dX1_outsOf_31, dX1_outsOf_32, dX1_outsOf_33, dX1_outsOf_35, rfl⟩ rfl ?_
        refine t_iald C 37 dX1_outsOf_36 rfl hw.1 ?_
        replace hw := hw.2
        refine t_b C (pc' := 38) (L' := [(0, vA (some o)), (1, vI p0), (2, vI p1), (3, vI p2), (4, vI (s1.1)), (5, vI (s1.2))]) (st' := [vI p2, vI (T3.a 11 (ni ((8 * p1) + s1.2))), vI (s1.1)]) [(.iload_n 3, 1)] ⟨dX1_outsOf_37, rfl⟩ rfl ?_
        have kj7 : ∀ (m6 : Int32), m6 = (if (T3.a 11 (ni ((8 * p1) + s1.2))) = p2 then (jshl 1 ((8 * p0) + s1.2)) else 0) → K 54 [(0, vA (some o)), (1, vI p0), (2, vI p1), (3, vI p2), (5, vI (s1.2))] [vI m6, vI (s1.1)] T3 := by
          intro m6 em6
          replace hw := hw m6 em6
          refine t_b C (pc' := 60) (L' := [(5, vI (s1.2 + 1)), (4, vI (s1.1 ||| m6)), (0, vA (some o)), (1, vI p0), (2, vI p1), (3, vI p2)]) (st' := []) [(.ior, 1), (.istore 4, 2), (.iinc 5 1, 3)] ⟨dX1_outsOf_54, dX1_outsOf_55, dX1_outsOf_57, rfl⟩ rfl ?_
          refine t_goto C 13 dX1_outsOf_60 rfl ?_
          refine t_sub C (L' := [(0, vA (some o)), (1, vI p0), (2, vI p1), (3, vI p2), (4, vI (s1.1 ||| m6)), (5, vI (s1.2 + 1))]) [2, 3, 4, 5, 1, 0] rfl ?_
          obtain ⟨m9, hm9, hw⟩ := hw
          exact ih1 m9 hm9 ((s1.1 ||| m6), (s1.2 + 1)) T3 hw
        refine t_icmp_ne C 53 41 dX1_outsOf_38 rfl rfl (fun hc8 => ?_) (fun hc8 => ?_)
        · refine t_b C (pc' := 54) (L' := [(0, vA (some o)), (1, vI p0), (2, vI p1), (3, vI p2), (4, vI (s1.1)), (5, vI (s1.2))]) (st' := [vI 0, vI (s1.1)]) [(.iconst 0, 1)] ⟨dX1_outsOf_53, rfl⟩ rfl ?_
          refine t_sub C (L' := [(0, vA (some o)), (1, vI p0), (2, vI p1), (3, vI p2), (5, vI (s1.2))]) [0, 1, 2, 3, 5] rfl ?_
          exact kj7 _ ((if_neg hc8).symm)
        · refine t_b C (pc' := 50) (L' := [(0, vA (some o)), (1, vI p0), (2, vI p1), (3, vI p2), (4, vI (s1.1)), (5, vI (s1.2))]) (st' := [vI (jshl 1 ((8 * p0) + s1.2)), vI (s1.1)]) [(.iconst 1, 1), (.bipush 8, 2), (.iload_n 1, 1), (.imul, 1), (.iload 5, 2), (.iadd, 1), (.ishl, 1)] ⟨dX1_outsOf_41, dX1_outsOf_42, dX1_outsOf_44, dX1_outsOf_45, dX1_outsOf_46, dX1_outsOf_48, dX1_outsOf_49, rfl⟩ rfl ?_
          refine t_goto C 54 dX1_outsOf_50 rfl ?_
          refine t_sub C (L' := [(0, vA (some o)), (1, vI p0), (2, vI p1), (3, vI p2), (5, vI (s1.2))]) [0, 1, 2, 3, 5] rfl ?_
          exact kj7 _ ((if_pos hc8).symm)
  exact key1 n1 (0, (T.a 1 (ni (4 + p1)))) T hI1
def wp_X1_step (p0 : Int32) (T : TS) (Q : TS → Prop) : Prop :=
  tix 13 40 (T.s 233) ∧
  ∀ T1, T1 = T.sa 13 (ni (T.s 233)) p0 →
  ∀ T2, T2 = T1.ss 233 ((T1.s 233) + 1) →
  Q T2
theorem hd_X1_step : yX1_step.cls = RX1 ∧ yX1_step.cls ≠ "java/lang/invoke/MethodHandle" ∧ yX1_step.cls ≠ "java/lang/invoke/VarHandle" ∧ (parseMethodDescriptor yX1_step.desc).map (fun d => d.parameters.length) = some 1 := by decide +kernel
theorem ok_X1_step {l : Launch} {D : va_G} {s0 : S0} (hG : G0 D s0) {o : Nat} {p0 : Int32} {T : TS} {Q : TS → Prop} (hw : wp_X1_step p0 T Q) : OKt l D s0 o yX1_step cX1_step 2 none 0 0 [vA (some o), vI p0] T (TV Q) := by
  refine t_met hG rfl rfl (L0 := [(0, vA (some o)), (1, vI p0)]) rfl rfl ?_
  intro h K C
  unfold wp_X1_step at hw
  refine t_b C (pc' := 1) (L' := [(0, vA (some o)), (1, vI p0)]) (st' := [vA (some o)]) [(.aload_n 0, 1)] ⟨dX1_step_0, rfl⟩ rfl ?_
  refine t_gA C 232 13 4 dX1_step_1 rfl rfl rfl rfl rfl q2220 (fun _ _ _ => rfl) ?_
  refine t_b C (pc' := 5) (L' := [(0, vA (some o)), (1, vI p0)]) (st' := [vA (some o), vA (some (o + 1 + 13))]) [(.aload_n 0, 1)] ⟨dX1_step_4, rfl⟩ rfl ?_
  refine t_gI C 233 8 dX1_step_5 rfl rfl rfl q2221 (fun _ _ _ => rfl) ?_
  refine t_b C (pc' := 9) (L' := [(0, vA (some o)), (1, vI p0)]) (st' := [vI p0, vI (T.s 233), vA (some (o + 1 + 13))]) [(.iload_n 1, 1)] ⟨dX1_step_8, rfl⟩ rfl ?_
  refine t_iast C 10 dX1_step_9 rfl hw.1 (fun T1 eT1 => ?_)
  replace hw := hw.2 T1 eT1
  refine t_b C (pc' := 12) (L' := [(0, vA (some o)), (1, vI p0)]) (st' := [vA (some o), vA (some o)]) [(.aload_n 0, 1), (.dup, 1)] ⟨dX1_step_10, dX1_step_11, rfl⟩ rfl ?_
  refine t_gI C 233 15 dX1_step_12 rfl rfl rfl q2221 (fun _ _ _ => rfl) ?_
  refine t_b C (pc' := 17) (L' := [(0, vA (some o)), (1, vI p0)]) (st' := [vI ((T1.s 233) + 1), vA (some o)]) [(.iconst 1, 1), (.iadd, 1)] ⟨dX1_step_15, dX1_step_16, rfl⟩ rfl ?_
  refine t_pI C 233 20 dX1_step_17 rfl rfl rfl rfl q2221 (fun _ _ _ => rfl) rfl rfl (fun T2 eT2 => ?_)
  replace hw := hw T2 eT2
  exact t_vret C dX1_step_20 ⟨rfl, hw⟩
def wp_X1_laysPlan (p0 : Int32) (T : TS) (Q : TS → Prop) : Prop :=
  wp_X1_laysAllVisits  T fun T1 =>
  ∀ T3, T3 = T1.ss 233 0 →
  tlp (σ := Int32) (fun s4 T5 k4 =>
  ((4 ≤ s4 →
  tix 1 40 (20 + p0) ∧
  wp_X1_insOf 0 (T5.a 1 (ni (20 + p0))) 1 T5 fun r8 T7 =>
  tlp (σ := Int32 × Int32) (fun s9 T10 k9 =>
  tix 12 40 (T5.a 1 (ni (20 + p0))) ∧
  (((T10.a 12 (ni (T5.a 1 (ni (20 + p0))))) < s9.1 →
  Q T10) ∧ (¬ (T10.a 12 (ni (T5.a 1 (ni (20 + p0))))) < s9.1 →
  wp_X1_outsOf 0 (T5.a 1 (ni (20 + p0))) (s9.1) T10 fun r13 T12 =>
  ∀ m14 : Int32, m14 = (if (r13 &&& (s9.2 ^^^ (-1))) = 0 then 1 else 0) →
  wp_X1_nextRule p0 (s9.2) T12 fun r17 T16 =>
  wp_X1_nextChild p0 (s9.2) T16 fun r19 T18 =>
  tix 12 40 (T5.a 1 (ni (20 + p0))) ∧
  (((((T18.a 12 (ni (T5.a 1 (ni (20 + p0))))) ≤ s9.1) ∨ (m14 = 0)) →
  ((((r17 = (-1)) ∧ (r19 = (-1))) →
  wp_X1_step (1000 + s9.1) T18 fun T24 =>
  wp_X1_insOf 0 (T5.a 1 (ni (20 + p0))) (s9.1 + 1) T24 fun r27 T26 =>
  k9 ((s9.1 + 1), (s9.2 ||| r27)) T26) ∧ (¬ ((r17 = (-1)) ∧ (r19 = (-1))) →
  ((r17 = (-1) →
  tix 14 40 r19 ∧
  tix 14 40 r19 ∧
  ∀ T29, T29 = T18.sa 14 (ni r19) ((T18.a 14 (ni r19)) + 1) →
  tix 14 40 r19 ∧
  wp_X1_step ((10 * r19) + (T29.a 14 (ni r19))) T29 fun T30 =>
  wp_X1_symbolAt 1 p0 r19 T30 fun r33 T32 =>
  tix 14 40 r19 ∧
  wp_X1_outsOf r19 r33 (T32.a 14 (ni r19)) T32 fun r35 T34 =>
  k9 (s9.1, (s9.2 ||| r35)) T34) ∧ (¬ r17 = (-1) →
  wp_X1_step (100 + r17) T18 fun T36 =>
  k9 (s9.1, (s9.2 ||| (jshl 1 r17))) T36))))) ∧ (¬ (((T18.a 12 (ni (T5.a 1 (ni (20 + p0))))) ≤ s9.1) ∨ (m14 = 0)) →
  wp_X1_step (1000 + s9.1) T18 fun T40 =>
  wp_X1_insOf 0 (T5.a 1 (ni (20 + p0))) (s9.1 + 1) T40 fun r43 T42 =>
  k9 ((s9.1 + 1), (s9.2 ||| r43)) T42))))) (1, r8) T7) ∧ (¬ 4 ≤ s4 →
  tix 14 40 s4 ∧
  ∀ T47, T47 = T5.sa 14 (ni s4) 0 →
  k4 (s4 + 1) T47))) 0 T3
theorem hd_X1_laysPlan : yX1_laysPlan.cls = RX1 ∧ yX1_laysPlan.cls ≠ "java/lang/invoke/MethodHandle" ∧ yX1_laysPlan.cls ≠ "java/lang/invoke/VarHandle" ∧ (parseMethodDescriptor yX1_laysPlan.desc).map (fun d => d.parameters.length) = some 1 := by decide +kernel
theorem ok_X1_laysPlan {l : Launch} {D : va_G} {s0 : S0} (hG : G0 D s0) {o : Nat} {p0 : Int32} {T : TS} {Q : TS → Prop} (hw : wp_X1_laysPlan p0 T Q) : OKt l D s0 o yX1_laysPlan cX1_laysPlan 8 none 6 133 [vA (some o), vI p0] T (TV Q) := by
  refine t_met hG rfl rfl (L0 := [(0, vA (some o)), (1, vI p0)]) rfl rfl ?_
  intro h K C
  unfold wp_X1_laysPlan at hw
  refine t_b C (pc' := 1) (L' := [(0, vA (some o)), (1, vI p0)]) (st' := [vA (some o)]) [(.aload_n 0, 1)] ⟨dX1_laysPlan_0, rfl⟩ rfl ?_
  refine t_callVV C 4 [] [] dX1_laysPlan_1 rfl (ok_X1_laysAllVisits hG hw) q2657 q2659 qs112 q159 q2660 hd_X1_laysAllVisits ⟨rfl, rfl, rfl⟩ (fun T1 hw => ?_)
  refine t_b C (pc' := 6) (L' := [(0, vA (some o)), (1, vI p0)]) (st' := [vI 0, vA (some o)]) [(.aload_n 0, 1), (.iconst 0, 1)] ⟨dX1_laysPlan_4, dX1_laysPlan_5, rfl⟩ rfl ?_
  refine t_pI C 233 9 dX1_laysPlan_6 rfl rfl rfl rfl q2221 (fun _ _ _ => rfl) rfl rfl (fun T3 eT3 => ?_)
  replace hw := hw T3 eT3
  refine t_b C (pc' := 11) (L' := [(2, vI 0), (0, vA (some o)), (1, vI p0)]) (st' := []) [(.iconst 0, 1), (.istore_n 2, 1)] ⟨dX1_laysPlan_9, dX1_laysPlan_10, rfl⟩ rfl ?_
  obtain ⟨I4, ⟨n4, hI4⟩, hB4⟩ := tlp.out hw
  refine t_sub C (L' := [(0, vA (some o)), (1, vI p0), (2, vI 0)]) [1, 2, 0] rfl ?_
  have key4 : ∀ (n : Nat) (s4 : Int32) (T5 : TS), I4 n s4 T5 → K 11 [(0, vA (some o)), (1, vI p0), (2, vI s4)] [] T5 := by
    intro n
    induction n using Nat.strongRecOn with
    | ind n ih4 =>
      intro s4 T5 hI
      replace hw := hB4 n s4 T5 hI
      refine t_b C (pc' := 13) (L' := [(0, vA (some o)), (1, vI p0), (2, vI s4)]) (st' := [vI 4, vI s4]) [(.iload_n 2, 1), (.iconst 4, 1)] ⟨dX1_laysPlan_11, dX1_laysPlan_12, rfl⟩ rfl ?_
      refine t_icmp_ge C 29 16 dX1_laysPlan_13 rfl rfl (fun hc6 => ?_) (fun hc6 => ?_)
      · replace hw := hw.1 hc6
        refine t_b C (pc' := 30) (L' := [(0, vA (some o)), (1, vI p0), (2, vI s4)]) (st' := [vA (some o)]) [(.aload_n 0, 1)] ⟨dX1_laysPlan_29, rfl⟩ rfl ?_
        refine t_gA C 201 1 33 dX1_laysPlan_30 rfl rfl rfl rfl rfl q2189 (fun _ _ _ => rfl) ?_
        refine t_b C (pc' := 37) (L' := [(0, vA (some o)), (1, vI p0), (2, vI s4)]) (st' := [vI (20 + p0), vA (some (o + 1 + 1))]) [(.bipush 20, 2), (.iload_n 1, 1), (.iadd, 1)] ⟨dX1_laysPlan_33, dX1_laysPlan_35, dX1_laysPlan_36, rfl⟩ rfl ?_
        refine t_iald C 38 dX1_laysPlan_37 rfl hw.1 ?_
        replace hw := hw.2
        refine t_b C (pc' := 45) (L' := [(3, vI 1), (2, vI (T5.a 1 (ni (20 + p0)))), (0, vA (some o)), (1, vI p0)]) (st' := [vI 1, vI (T5.a 1 (ni (20 + p0))), vI 0, vA (some o)]) [(.istore_n 2, 1), (.iconst 1, 1), (.istore_n 3, 1), (.aload_n 0, 1), (.iconst 0, 1), (.iload_n 2, 1), (.iconst 1, 1)] ⟨dX1_laysPlan_38, dX1_laysPlan_39, dX1_laysPlan_40, dX1_laysPlan_41, dX1_laysPlan_42, dX1_laysPlan_43, dX1_laysPlan_44, rfl⟩ rfl ?_
        refine t_callVI C 48 [vI 0, vI (T5.a 1 (ni (20 + p0))), vI 1] [] dX1_laysPlan_45 rfl (ok_X1_insOf hG hw) q2706 q2708 qs119 q159 q2709 hd_X1_insOf ⟨rfl, rfl, rfl⟩ (fun r8 T7 hw => ?_)
        refine t_b C (pc' := 50) (L' := [(4, vI r8), (3, vI 1), (2, vI (T5.a 1 (ni (20 + p0)))), (0, vA (some o)), (1, vI p0)]) (st' := []) [(.istore 4, 2)] ⟨dX1_laysPlan_48, rfl⟩ rfl ?_
        obtain ⟨I9, ⟨n9, hI9⟩, hB9⟩ := tlp.out hw
        refine t_sub C (L' := [(0, vA (some o)), (1, vI p0), (2, vI (T5.a 1 (ni (20 + p0)))), (3, vI 1), (4, vI r8)]) [3, 4, 2, 1, 0] rfl ?_
        have key9 : ∀ (n : Nat) (s9 : Int32 × Int32) (T10 : TS), I9 n s9 T10 → K 50 [(0, vA (some o)), (1, vI p0), (2, vI (T5.a 1 (ni (20 + p0)))), (3, vI (s9.1)), (4, vI (s9.2))] [] T10 := by
          intro n
          induction n using Nat.strongRecOn with
          | ind n ih9 =>
            intro s9 T10 hI
            replace hw := hB9 n s9 T10 hI
            refine t_b C (pc' := 52) (L' := [(0, vA (some o)), (1, vI p0), (2, vI (T5.a 1 (ni (20 + p0)))), (3, vI (s9.1)), (4, vI (s9.2))]) (st' := [vA (some o), vI (s9.1)]) [(.iload_n 3, 1), (.aload_n 0, 1)] ⟨dX1_laysPlan_50, dX1_laysPlan_51, rfl⟩ rfl ?_
            refine t_gA C 230 12 55 dX1_laysPlan_52 rfl rfl rfl rfl rfl q2218 (fun _ _ _ => rfl) ?_
            refine t_b C (pc' := 56) (L' := [(0, vA (some o)), (1, vI p0), (2, vI (T5.a 1 (ni (20 + p0)))), (3, vI (s9.1)), (4, vI (s9.2))]) (st' := [vI (T5.a 1 (ni (20 + p0))), vA (some (o + 1 + 12)), vI (s9.1)]) [(.iload_n 2, 1)] ⟨dX1_laysPlan_55, rfl⟩ rfl ?_
            refine t_iald C 57 dX1_laysPlan_56 rfl hw.1 ?_
            replace hw := hw.2
            refine t_icmp_gt C 240 60 dX1_laysPlan_57 rfl rfl (fun hc11 => ?_) (fun hc11 => ?_)
            · replace hw := hw.1 hc11
              exact t_vret C dX1_laysPlan_240 ⟨rfl, hw⟩
            · replace hw := hw.2 hc11
              refine t_b C (pc' := 64) (L' := [(0, vA (some o)), (1, vI p0), (2, vI (T5.a 1 (ni (20 + p0)))), (3, vI (s9.1)), (4, vI (s9.2))]) (st' := [vI (s9.1), vI (T5.a 1 (ni (20 + p0))), vI 0, vA (some o)]) [(.aload_n 0, 1), (.iconst 0, 1), (.iload_n 2, 1), (.iload_n 3, 1)] ⟨dX1_laysPlan_60, dX1_laysPlan_61, dX1_laysPlan_62, dX1_laysPlan_63, rfl⟩ rfl ?_
              refine t_callVI C 67 [vI 0, vI (T5.a 1 (ni (20 + p0))), vI (s9.1)] [] dX1_laysPlan_64 rfl (ok_X1_outsOf hG hw) q2710 q2712 qs120 q159 q2713 hd_X1_outsOf ⟨rfl, rfl, rfl⟩ (fun r13 T12 hw => ?_)
              refine t_b C (pc' := 72) (L' := [(0, vA (some o)), (1, vI p0), (2, vI (T5.a 1 (ni (20 + p0)))), (3, vI (s9.1)), (4, vI (s9.2))]) (st' := [vI (r13 &&& (s9.2 ^^^ (-1)))]) [(.iload 4, 2), (.iconst (-1), 1), (.ixor, 1), (.iand, 1)] ⟨dX1_laysPlan_67, dX1_laysPlan_69, dX1_laysPlan_70, dX1_laysPlan_71, rfl⟩ rfl ?_
              have kj15 : ∀ (m14 : Int32), m14 = (if (r13 &&& (s9.2 ^^^ (-1))) = 0 then 1 else 0) → K 80 [(0, vA (some o)), (1, vI p0), (2, vI (T5.a 1 (ni (20 + p0)))), (3, vI (s9.1)), (4, vI (s9.2))] [vI m14] T12 := by
                intro m14 em14
                replace hw := hw m14 em14
                refine t_b C (pc' := 86) (L' := [(5, vI m14), (0, vA (some o)), (1, vI p0), (2, vI (T5.a 1 (ni (20 + p0)))), (3, vI (s9.1)), (4, vI (s9.2))]) (st' := [vI (s9.2), vI p0, vA (some o)]) [(.istore 5, 2), (.aload_n 0, 1), (.iload_n 1, 1), (.iload 4, 2)] ⟨dX1_laysPlan_80, dX1_laysPlan_82, dX1_laysPlan_83, dX1_laysPlan_84, rfl⟩ rfl ?_
                refine t_callVI C 89 [vI p0, vI (s9.2)] [] dX1_laysPlan_86 rfl (ok_X1_nextRule hG hw) q2714 q2716 qs121 q159 q2717 hd_X1_nextRule ⟨rfl, rfl, rfl⟩ (fun r17 T16 hw => ?_)
                refine t_b C (pc' := 95) (L' := [(6, vI r17), (5, vI m14), (0, vA (some o)), (1, vI p0), (2, vI (T5.a 1 (ni (20 + p0)))), (3, vI (s9.1)), (4, vI (s9.2))]) (st' := [vI (s9.2), vI p0, vA (some o)]) [(.istore 6, 2), (.aload_n 0, 1), (.iload_n 1, 1), (.iload 4, 2)] ⟨dX1_laysPlan_89, dX1_laysPlan_91, dX1_laysPlan_92, dX1_laysPlan_93, rfl⟩ rfl ?_
                refine t_callVI C 98 [vI p0, vI (s9.2)] [] dX1_laysPlan_95 rfl (ok_X1_nextChild hG hw) q2718 q2720 qs122 q159 q2721 hd_X1_nextChild ⟨rfl, rfl, rfl⟩ (fun r19 T18 hw => ?_)
                refine t_b C (pc' := 102) (L' := [(7, vI r19), (6, vI r17), (5, vI m14), (0, vA (some o)), (1, vI p0), (2, vI (T5.a 1 (ni (20 + p0)))), (3, vI (s9.1)), (4, vI (s9.2))]) (st' := [vA (some o), vI (s9.1)]) [(.istore 7, 2), (.iload_n 3, 1), (.aload_n 0, 1)] ⟨dX1_laysPlan_98, dX1_laysPlan_100, dX1_laysPlan_101, rfl⟩ rfl ?_
                refine t_gA C 230 12 105 dX1_laysPlan_102 rfl rfl rfl rfl rfl q2218 (fun _ _ _ => rfl) ?_
                refine t_b C (pc' := 106) (L' := [(7, vI r19), (6, vI r17), (5, vI m14), (0, vA (some o)), (1, vI p0), (2, vI (T5.a 1 (ni (20 + p0)))), (3, vI (s9.1)), (4, vI (s9.2))]) (st' := [vI (T5.a 1 (ni (20 + p0))), vA (some (o + 1 + 12)), vI (s9.1)]) [(.iload_n 2, 1)] ⟨dX1_laysPlan_105, rfl⟩ rfl ?_
                refine t_iald C 107 dX1_laysPlan_106 rfl hw.1 ?_
                replace hw := hw.2
                have kx20 : (((T18.a 12 (ni (T5.a 1 (ni (20 + p0))))) ≤ s9.1) ∨ (m14 = 0)) → K 115 [(7, vI r19), (6, vI r17), (5, vI m14), (0, vA (some o)), (1, vI p0), (2, vI (T5.a 1 (ni (20 + p0)))), (3, vI (s9.1)), (4, vI (s9.2))] [] T18 := by
                  intro hcc
                  replace hw := hw.1 hcc
                  refine t_b C (pc' := 118) (L' := [(7, vI r19), (6, vI r17), (5, vI m14), (0, vA (some o)), (1, vI p0), (2, vI (T5.a 1 (ni (20 + p0)))), (3, vI (s9.1)), (4, vI (s9.2))]) (st' := [vI (-1), vI r17]) [(.iload 6, 2), (.iconst (-1), 1)] ⟨dX1_laysPlan_115, dX1_laysPlan_117, rfl⟩ rfl ?_
                  have kx22 : ((r17 = (-1)) ∧ (r19 = (-1))) → K 127 [(7, vI r19), (6, vI r17), (5, vI m14), (0, vA (some o)), (1, vI p0), (2, vI (T5.a 1 (ni (20 + p0)))), (3, vI (s9.1)), (4, vI (s9.2))] [] T18 := by
                    intro hcc
                    replace hw := hw.1 hcc
                    refine t_b C (pc' := 133) (L' := [(7, vI r19), (6, vI r17), (5, vI m14), (0, vA (some o)), (1, vI p0), (2, vI (T5.a 1 (ni (20 + p0)))), (3, vI (s9.1)), (4, vI (s9.2))]) (st' := [vI (1000 + s9.1), vA (some o)]) [(.aload_n 0, 1), (.sipush 1000, 3), (.iload_n 3, 1), (.iadd, 1)] ⟨dX1_laysPlan_127, dX1_laysPlan_128, dX1_laysPlan_131, dX1_laysPlan_132, rfl⟩ rfl ?_
                    refine t_callVV C 136 [vI (1000 + s9.1)] [] dX1_laysPlan_133 rfl (ok_X1_step hG hw) q2722 q2724 qs123 q159 q2725 hd_X1_step ⟨rfl, rfl, rfl⟩ (fun T24 hw => ?_)
                    refine t_b C (pc' := 145) (L' := [(3, vI (s9.1 + 1)), (7, vI r19), (6, vI r17), (5, vI m14), (0, vA (some o)), (1, vI p0), (2, vI (T5.a 1 (ni (20 + p0)))), (4, vI (s9.2))]) (st' := [vI (s9.1 + 1), vI (T5.a 1 (ni (20 + p0))), vI 0, vA (some o), vI (s9.2)]) [(.iinc 3 1, 3), (.iload 4, 2), (.aload_n 0, 1), (.iconst 0, 1), (.iload_n 2, 1), (.iload_n 3, 1)] ⟨dX1_laysPlan_136, dX1_laysPlan_139, dX1_laysPlan_141, dX1_laysPlan_142, dX1_laysPlan_143, dX1_laysPlan_144, rfl⟩ rfl ?_
                    refine t_callVI C 148 [vI 0, vI (T5.a 1 (ni (20 + p0))), vI (s9.1 + 1)] [vI (s9.2)] dX1_laysPlan_145 rfl (ok_X1_insOf hG hw) q2706 q2708 qs119 q159 q2709 hd_X1_insOf ⟨rfl, rfl, rfl⟩ (fun r27 T26 hw => ?_)
                    refine t_b C (pc' := 151) (L' := [(4, vI (s9.2 ||| r27)), (3, vI (s9.1 + 1)), (7, vI r19), (6, vI r17), (5, vI m14), (0, vA (some o)), (1, vI p0), (2, vI (T5.a 1 (ni (20 + p0))))]) (st' := []) [(.ior, 1), (.istore 4, 2)] ⟨dX1_laysPlan_148, dX1_laysPlan_149, rfl⟩ rfl ?_
                    refine t_goto C 237 dX1_laysPlan_151 rfl ?_
                    refine t_goto C 50 dX1_laysPlan_237 rfl ?_
                    refine t_sub C (L' := [(0, vA (some o)), (1, vI p0), (2, vI (T5.a 1 (ni (20 + p0)))), (3, vI (s9.1 + 1)), (4, vI (s9.2 ||| r27))]) [5, 6, 7, 1, 0] rfl ?_
                    obtain ⟨m9, hm9, hw⟩ := hw
                    exact ih9 m9 hm9 ((s9.1 + 1), (s9.2 ||| r27)) T26 hw
                  have ky23 : ¬ ((r17 = (-1)) ∧ (r19 = (-1))) → K 154 [(7, vI r19), (6, vI r17), (5, vI m14), (0, vA (some o)), (1, vI p0), (2, vI (T5.a 1 (ni (20 + p0)))), (3, vI (s9.1)), (4, vI (s9.2))] [] T18 := by
                    intro hcc
                    replace hw := hw.2 hcc
                    refine t_b C (pc' := 157) (L' := [(7, vI r19), (6, vI r17), (5, vI m14), (0, vA (some o)), (1, vI p0), (2, vI (T5.a 1 (ni (20 + p0)))), (3, vI (s9.1)), (4, vI (s9.2))]) (st' := [vI (-1), vI r17]) [(.iload 6, 2), (.iconst (-1), 1)] ⟨dX1_laysPlan_154, dX1_laysPlan_156, rfl⟩ rfl ?_
                    refine t_icmp_eq C 181 160 dX1_laysPlan_157 rfl rfl (fun hc28 => ?_) (fun hc28 => ?_)
                    · replace hw := hw.1 hc28
                      refine t_b C (pc' := 182) (L' := [(7, vI r19), (6, vI r17), (5, vI m14), (0, vA (some o)), (1, vI p0), (2, vI (T5.a 1 (ni (20 + p0)))), (3, vI (s9.1)), (4, vI (s9.2))]) (st' := [vA (some o)]) [(.aload_n 0, 1)] ⟨dX1_laysPlan_181, rfl⟩ rfl ?_
                      refine t_gA C 234 14 185 dX1_laysPlan_182 rfl rfl rfl rfl rfl q2222 (fun _ _ _ => rfl) ?_
                      refine t_b C (pc' := 188) (L' := [(7, vI r19), (6, vI r17), (5, vI m14), (0, vA (some o)), (1, vI p0), (2, vI (T5.a 1 (ni (20 + p0)))), (3, vI (s9.1)), (4, vI (s9.2))]) (st' := [vI r19, vA (some (o + 1 + 14)), vI r19, vA (some (o + 1 + 14))]) [(.iload 7, 2), (.dup2, 1)] ⟨dX1_laysPlan_185, dX1_laysPlan_187, rfl⟩ rfl ?_
                      refine t_iald C 189 dX1_laysPlan_188 rfl hw.1 ?_
                      replace hw := hw.2
                      refine t_b C (pc' := 191) (L' := [(7, vI r19), (6, vI r17), (5, vI m14), (0, vA (some o)), (1, vI p0), (2, vI (T5.a 1 (ni (20 + p0)))), (3, vI (s9.1)), (4, vI (s9.2))]) (st' := [vI ((T18.a 14 (ni r19)) + 1), vI r19, vA (some (o + 1 + 14))]) [(.iconst 1, 1), (.iadd, 1)] ⟨dX1_laysPlan_189, dX1_laysPlan_190, rfl⟩ rfl ?_
                      refine t_iast C 192 dX1_laysPlan_191 rfl hw.1 (fun T29 eT29 => ?_)
                      replace hw := hw.2 T29 eT29
                      refine t_b C (pc' := 199) (L' := [(7, vI r19), (6, vI r17), (5, vI m14), (0, vA (some o)), (1, vI p0), (2, vI (T5.a 1 (ni (20 + p0)))), (3, vI (s9.1)), (4, vI (s9.2))]) (st' := [vA (some o), vI (10 * r19), vA (some o)]) [(.aload_n 0, 1), (.bipush 10, 2), (.iload 7, 2), (.imul, 1), (.aload_n 0, 1)] ⟨dX1_laysPlan_192, dX1_laysPlan_193, dX1_laysPlan_195, dX1_laysPlan_197, dX1_laysPlan_198, rfl⟩ rfl ?_
                      refine t_gA C 234 14 202 dX1_laysPlan_199 rfl rfl rfl rfl rfl q2222 (fun _ _ _ => rfl) ?_
                      refine t_b C (pc' := 204) (L' := [(7, vI r19), (6, vI r17), (5, vI m14), (0, vA (some o)), (1, vI p0), (2, vI (T5.a 1 (ni (20 + p0)))), (3, vI (s9.1)), (4, vI (s9.2))]) (st' := [vI r19, vA (some (o + 1 + 14)), vI (10 * r19), vA (some o)]) [(.iload 7, 2)] ⟨dX1_laysPlan_202, rfl⟩ rfl ?_
                      refine t_iald C 205 dX1_laysPlan_204 rfl hw.1 ?_
                      replace hw := hw.2
                      refine t_b C (pc' := 206) (L' := [(7, vI r19), (6, vI r17), (5, vI m14), (0, vA (some o)), (1, vI p0), (2, vI (T5.a 1 (ni (20 + p0)))), (3, vI (s9.1)), (4, vI (s9.2))]) (st' := [vI ((10 * r19) + (T29.a 14 (ni r19))), vA (some o)]) [(.iadd, 1)] ⟨dX1_laysPlan_205, rfl⟩ rfl ?_
                      refine t_callVV C 209 [vI ((10 * r19) + (T29.a 14 (ni r19)))] [] dX1_laysPlan_206 rfl (ok_X1_step hG hw) q2722 q2724 qs123 q159 q2725 hd_X1_step ⟨rfl, rfl, rfl⟩ (fun T30 hw => ?_)
                      refine t_b C (pc' := 215) (L' := [(7, vI r19), (6, vI r17), (5, vI m14), (0, vA (some o)), (1, vI p0), (2, vI (T5.a 1 (ni (20 + p0)))), (3, vI (s9.1)), (4, vI (s9.2))]) (st' := [vA (some o), vI r19, vA (some o), vI (s9.2)]) [(.iload 4, 2), (.aload_n 0, 1), (.iload 7, 2), (.aload_n 0, 1)] ⟨dX1_laysPlan_209, dX1_laysPlan_211, dX1_laysPlan_212, dX1_laysPlan_214, rfl⟩ rfl ?_
                      refine t_gA C 201 1 218 dX1_laysPlan_215 rfl rfl rfl rfl rfl q2189 (fun _ _ _ => rfl) ?_
                      refine t_b C (pc' := 221) (L' := [(7, vI r19), (6, vI r17), (5, vI m14), (0, vA (some o)), (1, vI p0), (2, vI (T5.a 1 (ni (20 + p0)))), (3, vI (s9.1)), (4, vI (s9.2))]) (st' := [vI r19, vI p0, vA (some (o + 1 + 1)), vI r19, vA (some o), vI (s9.2)]) [(.iload_n 1, 1), (.iload 7, 2)] ⟨dX1_laysPlan_218, dX1_laysPlan_219, rfl⟩ rfl ?_
                      refine t_callSI C 224 [vA (some (o + 1 + 1)), vI p0, vI r19] [vI r19, vA (some o), vI (s9.2)] dX1_laysPlan_221 rfl (ok_X1_symbolAt hG hw) q2520 q2521 q159 q2522 hd_X1_symbolAt ⟨rfl, rfl, rfl⟩ (fun r33 T32 hw => ?_)
                      refine t_b C (pc' := 225) (L' := [(7, vI r19), (6, vI r17), (5, vI m14), (0, vA (some o)), (1, vI p0), (2, vI (T5.a 1 (ni (20 + p0)))), (3, vI (s9.1)), (4, vI (s9.2))]) (st' := [vA (some o), vI r33, vI r19, vA (some o), vI (s9.2)]) [(.aload_n 0, 1)] ⟨dX1_laysPlan_224, rfl⟩ rfl ?_
                      refine t_gA C 234 14 228 dX1_laysPlan_225 rfl rfl rfl rfl rfl q2222 (fun _ _ _ => rfl) ?_
                      refine t_b C (pc' := 230) (L' := [(7, vI r19), (6, vI r17), (5, vI m14), (0, vA (some o)), (1, vI p0), (2, vI (T5.a 1 (ni (20 + p0)))), (3, vI (s9.1)), (4, vI (s9.2))]) (st' := [vI r19, vA (some (o + 1 + 14)), vI r33, vI r19, vA (some o), vI (s9.2)]) [(.iload 7, 2)] ⟨dX1_laysPlan_228, rfl⟩ rfl ?_
                      refine t_iald C 231 dX1_laysPlan_230 rfl hw.1 ?_
                      replace hw := hw.2
                      refine t_callVI C 234 [vI r19, vI r33, vI (T32.a 14 (ni r19))] [vI (s9.2)] dX1_laysPlan_231 rfl (ok_X1_outsOf hG hw) q2710 q2712 qs120 q159 q2713 hd_X1_outsOf ⟨rfl, rfl, rfl⟩ (fun r35 T34 hw => ?_)
                      refine t_b C (pc' := 237) (L' := [(4, vI (s9.2 ||| r35)), (7, vI r19), (6, vI r17), (5, vI m14), (0, vA (some o)), (1, vI p0), (2, vI (T5.a 1 (ni (20 + p0)))), (3, vI (s9.1))]) (st' := []) [(.ior, 1), (.istore 4, 2)] ⟨dX1_laysPlan_234, dX1_laysPlan_235, rfl⟩ rfl ?_
                      refine t_goto C 50 dX1_laysPlan_237 rfl ?_
                      refine t_sub C (L' := [(0, vA (some o)), (1, vI p0), (2, vI (T5.a 1 (ni (20 + p0)))), (3, vI (s9.1)), (4, vI (s9.2 ||| r35))]) [4, 5, 6, 7, 0] rfl ?_
                      obtain ⟨m9, hm9, hw⟩ := hw
                      exact ih9 m9 hm9 (s9.1, (s9.2 ||| r35)) T34 hw
                    · replace hw := hw.2 hc28
                      refine t_b C (pc' := 166) (L' := [(7, vI r19), (6, vI r17), (5, vI m14), (0, vA (some o)), (1, vI p0), (2, vI (T5.a 1 (ni (20 + p0)))), (3, vI (s9.1)), (4, vI (s9.2))]) (st' := [vI (100 + r17), vA (some o)]) [(.aload_n 0, 1), (.bipush 100, 2), (.iload 6, 2), (.iadd, 1)] ⟨dX1_laysPlan_160, dX1_laysPlan_161, dX1_laysPlan_163, dX1_laysPlan_165, rfl⟩ rfl ?_
                      refine t_callVV C 169 [vI (100 + r17)] [] dX1_laysPlan_166 rfl (ok_X1_step hG hw) q2722 q2724 qs123 q159 q2725 hd_X1_step ⟨rfl, rfl, rfl⟩ (fun T36 hw => ?_)
                      refine t_b C (pc' := 178) (L' := [(4, vI (s9.2 ||| (jshl 1 r17))), (7, vI r19), (6, vI r17), (5, vI m14), (0, vA (some o)), (1, vI p0), (2, vI (T5.a 1 (ni (20 + p0)))), (3, vI (s9.1))]) (st' := []) [(.iload 4, 2), (.iconst 1, 1), (.iload 6, 2), (.ishl, 1), (.ior, 1), (.istore 4, 2)] ⟨dX1_laysPlan_169, dX1_laysPlan_171, dX1_laysPlan_172, dX1_laysPlan_174, dX1_laysPlan_175, dX1_laysPlan_176, rfl⟩ rfl ?_
                      refine t_goto C 237 dX1_laysPlan_178 rfl ?_
                      refine t_goto C 50 dX1_laysPlan_237 rfl ?_
                      refine t_sub C (L' := [(0, vA (some o)), (1, vI p0), (2, vI (T5.a 1 (ni (20 + p0)))), (3, vI (s9.1)), (4, vI (s9.2 ||| (jshl 1 r17)))]) [4, 5, 6, 7, 0] rfl ?_
                      obtain ⟨m9, hm9, hw⟩ := hw
                      exact ih9 m9 hm9 (s9.1, (s9.2 ||| (jshl 1 r17))) T36 hw
                  refine t_icmp_ne C 154 121 dX1_laysPlan_118 rfl rfl (fun hc38 => ?_) (fun hc38 => ?_)
                  · exact ky23 (fun h0 => hc38 h0.1)
                  · refine t_b C (pc' := 124) (L' := [(7, vI r19), (6, vI r17), (5, vI m14), (0, vA (some o)), (1, vI p0), (2, vI (T5.a 1 (ni (20 + p0)))), (3, vI (s9.1)), (4, vI (s9.2))]) (st' := [vI (-1), vI r19]) [(.iload 7, 2), (.iconst (-1), 1)] ⟨dX1_laysPlan_121, dX1_laysPlan_123, rfl⟩ rfl ?_
                    refine t_icmp_ne C 154 127 dX1_laysPlan_124 rfl rfl (fun hc39 => ?_) (fun hc39 => ?_)
                    · exact ky23 (fun h0 => hc39 h0.2)
                    · exact kx22 ⟨hc38, hc39⟩
                have ky21 : ¬ (((T18.a 12 (ni (T5.a 1 (ni (20 + p0))))) ≤ s9.1) ∨ (m14 = 0)) → K 127 [(7, vI r19), (6, vI r17), (5, vI m14), (0, vA (some o)), (1, vI p0), (2, vI (T5.a 1 (ni (20 + p0)))), (3, vI (s9.1)), (4, vI (s9.2))] [] T18 := by
                  intro hcc
                  replace hw := hw.2 hcc
                  refine t_b C (pc' := 133) (L' := [(7, vI r19), (6, vI r17), (5, vI m14), (0, vA (some o)), (1, vI p0), (2, vI (T5.a 1 (ni (20 + p0)))), (3, vI (s9.1)), (4, vI (s9.2))]) (st' := [vI (1000 + s9.1), vA (some o)]) [(.aload_n 0, 1), (.sipush 1000, 3), (.iload_n 3, 1), (.iadd, 1)] ⟨dX1_laysPlan_127, dX1_laysPlan_128, dX1_laysPlan_131, dX1_laysPlan_132, rfl⟩ rfl ?_
                  refine t_callVV C 136 [vI (1000 + s9.1)] [] dX1_laysPlan_133 rfl (ok_X1_step hG hw) q2722 q2724 qs123 q159 q2725 hd_X1_step ⟨rfl, rfl, rfl⟩ (fun T40 hw => ?_)
                  refine t_b C (pc' := 145) (L' := [(3, vI (s9.1 + 1)), (7, vI r19), (6, vI r17), (5, vI m14), (0, vA (some o)), (1, vI p0), (2, vI (T5.a 1 (ni (20 + p0)))), (4, vI (s9.2))]) (st' := [vI (s9.1 + 1), vI (T5.a 1 (ni (20 + p0))), vI 0, vA (some o), vI (s9.2)]) [(.iinc 3 1, 3), (.iload 4, 2), (.aload_n 0, 1), (.iconst 0, 1), (.iload_n 2, 1), (.iload_n 3, 1)] ⟨dX1_laysPlan_136, dX1_laysPlan_139, dX1_laysPlan_141, dX1_laysPlan_142, dX1_laysPlan_143, dX1_laysPlan_144, rfl⟩ rfl ?_
                  refine t_callVI C 148 [vI 0, vI (T5.a 1 (ni (20 + p0))), vI (s9.1 + 1)] [vI (s9.2)] dX1_laysPlan_145 rfl (ok_X1_insOf hG hw) q2706 q2708 qs119 q159 q2709 hd_X1_insOf ⟨rfl, rfl, rfl⟩ (fun r43 T42 hw => ?_)
                  refine t_b C (pc' := 151) (L' := [(4, vI (s9.2 ||| r43)), (3, vI (s9.1 + 1)), (7, vI r19), (6, vI r17), (5, vI m14), (0, vA (some o)), (1, vI p0), (2, vI (T5.a 1 (ni (20 + p0))))]) (st' := []) [(.ior, 1), (.istore 4, 2)] ⟨dX1_laysPlan_148, dX1_laysPlan_149, rfl⟩ rfl ?_
                  refine t_goto C 237 dX1_laysPlan_151 rfl ?_
                  refine t_goto C 50 dX1_laysPlan_237 rfl ?_
                  refine t_sub C (L' := [(0, vA (some o)), (1, vI p0), (2, vI (T5.a 1 (ni (20 + p0)))), (3, vI (s9.1 + 1)), (4, vI (s9.2 ||| r43))]) [5, 6, 7, 1, 0] rfl ?_
                  obtain ⟨m9, hm9, hw⟩ := hw
                  exact ih9 m9 hm9 ((s9.1 + 1), (s9.2 ||| r43)) T42 hw
                refine t_icmp_ge C 115 110 dX1_laysPlan_107 rfl rfl (fun hc44 => ?_) (fun hc44 => ?_)
                · exact kx20 (Or.inl hc44)
                · refine t_b C (pc' := 112) (L' := [(7, vI r19), (6, vI r17), (5, vI m14), (0, vA (some o)), (1, vI p0), (2, vI (T5.a 1 (ni (20 + p0)))), (3, vI (s9.1)), (4, vI (s9.2))]) (st' := [vI m14]) [(.iload 5, 2)] ⟨dX1_laysPlan_110, rfl⟩ rfl ?_
                  refine t_if_ne C 127 115 dX1_laysPlan_112 rfl rfl (fun hc45 => ?_) (fun hc45 => ?_)
                  · exact ky21 (fun h0 => h0.elim hc44 hc45)
                  · exact kx20 (Or.inr hc45)
              refine t_if_ne C 79 75 dX1_laysPlan_72 rfl rfl (fun hc46 => ?_) (fun hc46 => ?_)
              · refine t_b C (pc' := 80) (L' := [(0, vA (some o)), (1, vI p0), (2, vI (T5.a 1 (ni (20 + p0)))), (3, vI (s9.1)), (4, vI (s9.2))]) (st' := [vI 0]) [(.iconst 0, 1)] ⟨dX1_laysPlan_79, rfl⟩ rfl ?_
                refine t_sub C (L' := [(0, vA (some o)), (1, vI p0), (2, vI (T5.a 1 (ni (20 + p0)))), (3, vI (s9.1)), (4, vI (s9.2))]) [0, 1, 2, 3, 4] rfl ?_
                exact kj15 _ ((if_neg hc46).symm)
              · refine t_b C (pc' := 76) (L' := [(0, vA (some o)), (1, vI p0), (2, vI (T5.a 1 (ni (20 + p0)))), (3, vI (s9.1)), (4, vI (s9.2))]) (st' := [vI 1]) [(.iconst 1, 1)] ⟨dX1_laysPlan_75, rfl⟩ rfl ?_
                refine t_goto C 80 dX1_laysPlan_76 rfl ?_
                refine t_sub C (L' := [(0, vA (some o)), (1, vI p0), (2, vI (T5.a 1 (ni (20 + p0)))), (3, vI (s9.1)), (4, vI (s9.2))]) [0, 1, 2, 3, 4] rfl ?_
                exact kj15 _ ((if_pos hc46).symm)
        exact key9 n9 (1, r8) T7 hI9
      · replace hw := hw.2 hc6
        refine t_b C (pc' := 17) (L' := [(0, vA (some o)), (1, vI p0), (2, vI s4)]) (st' := [vA (some o)]) [(.aload_n 0, 1)] ⟨dX1_laysPlan_16, rfl⟩ rfl ?_
        refine t_gA C 234 14 20 dX1_laysPlan_17 rfl rfl rfl rfl rfl q2222 (fun _ _ _ => rfl) ?_
        refine t_b C (pc' := 22) (L' := [(0, vA (some o)), (1, vI p0), (2, vI s4)]) (st' := [vI 0, vI s4, vA (some (o + 1 + 14))]) [(.iload_n 2, 1), (.iconst 0, 1)] ⟨dX1_laysPlan_20, dX1_laysPlan_21, rfl⟩ rfl ?_
        refine t_iast C 23 dX1_laysPlan_22 rfl hw.1 (fun T47 eT47 => ?_)
        replace hw := hw.2 T47 eT47
        refine t_b C (pc' := 26) (L' := [(2, vI (s4 + 1)), (0, vA (some o)), (1, vI p0)]) (st' := []) [(.iinc 2 1, 3)] ⟨dX1_laysPlan_23, rfl⟩ rfl ?_
        refine t_goto C 11 dX1_laysPlan_26 rfl ?_
        refine t_sub C (L' := [(0, vA (some o)), (1, vI p0), (2, vI (s4 + 1))]) [1, 2, 0] rfl ?_
        obtain ⟨m9, hm9, hw⟩ := hw
        exact ih4 m9 hm9 (s4 + 1) T47 hw
  exact key4 n4 0 T3 hI4
def wp_X1_longest  (T : TS) (Q : Int32 → TS → Prop) : Prop :=
  wp_X1_hasTree  T fun r2 T1 =>
  ((r2 = 0 →
  wp_X1_refuse 3 T1 fun r21 T20 =>
  Q r21 T20) ∧ (¬ r2 = 0 →
  tlp (σ := Int32 × Int32) (fun s4 T5 k4 =>
  (((T5.s 272) ≤ s4.2 →
  wp_X1_gives (s4.1) T5 fun r8 T7 =>
  Q r8 T7) ∧ (¬ (T5.s 272) ≤ s4.2 →
  tix 31 40 s4.2 ∧
  tix 43 40 (T5.a 31 (ni s4.2)) ∧
  ∀ T9, T9 = T5.sa 43 (ni (T5.a 31 (ni s4.2))) 0 →
  tix 29 40 (T5.a 31 (ni s4.2)) ∧
  (((T9.a 29 (ni (T5.a 31 (ni s4.2)))) = (-1) →
  tix 43 40 (T5.a 31 (ni s4.2)) ∧
  ∀ T11, T11 = T9.sa 43 (ni (T5.a 31 (ni s4.2))) 1 →
  tlp (σ := Int32) (fun s12 T13 k12 =>
  (((8 * (T13.s 250)) ≤ s12 →
  tix 43 40 (T5.a 31 (ni s4.2)) ∧
  k4 ((if s4.1 < (T13.a 43 (ni (T5.a 31 (ni s4.2)))) then (T13.a 43 (ni (T5.a 31 (ni s4.2)))) else s4.1), (s4.2 + 1)) T13) ∧ (¬ (8 * (T13.s 250)) ≤ s12 →
  wp_X1_bit 34 (T5.a 31 (ni s4.2)) s12 T13 fun r16 T15 =>
  ((r16 = 0 →
  k12 (s12 + 1) T15) ∧ (¬ r16 = 0 →
  tix 29 40 s12 ∧
  (((T15.a 29 (ni s12)) = (-1) →
  tix 43 40 (T5.a 31 (ni s4.2)) ∧
  tix 43 40 s12 ∧
  tix 43 40 (T5.a 31 (ni s4.2)) ∧
  ∀ T19, T19 = T15.sa 43 (ni (T5.a 31 (ni s4.2))) (if (T15.a 43 (ni (T5.a 31 (ni s4.2)))) < ((T15.a 43 (ni s12)) + 1) then ((T15.a 43 (ni s12)) + 1) else (T15.a 43 (ni (T5.a 31 (ni s4.2))))) →
  k12 (s12 + 1) T19) ∧ (¬ (T15.a 29 (ni s12)) = (-1) →
  k12 (s12 + 1) T15))))))) 0 T11) ∧ (¬ (T9.a 29 (ni (T5.a 31 (ni s4.2)))) = (-1) →
  k4 (s4.1, (s4.2 + 1)) T9))))) (0, 0) T1))
theorem hd_X1_longest : yX1_longest.cls = RX1 ∧ yX1_longest.cls ≠ "java/lang/invoke/MethodHandle" ∧ yX1_longest.cls ≠ "java/lang/invoke/VarHandle" ∧ (parseMethodDescriptor yX1_longest.desc).map (fun d => d.parameters.length) = some 0 := by decide +kernel
theorem ok_X1_longest {l : Launch} {D : va_G} {s0 : S0} (hG : G0 D s0) {o : Nat}  {T : TS} {Q : Int32 → TS → Prop} (hw : wp_X1_longest  T Q) : OKt l D s0 o yX1_longest cX1_longest 5 (some .int) 1 22 [vA (some o)] T (TI Q) := by
  refine t_met hG rfl rfl (L0 := [(0, vA (some o))]) rfl rfl ?_
  intro h K C
  unfold wp_X1_longest at hw
  refine t_b C (pc' := 1) (L' := [(0, vA (some o))]) (st' := [vA (some o)]) [(.aload_n 0, 1)] ⟨dX1_longest_0, rfl⟩ rfl ?_
  refine t_callVI C 4 [] [] dX1_longest_1 rfl (ok_X1_hasTree hG hw) q2849 q2851 qs148 q159 q2852 hd_X1_hasTree ⟨rfl, rfl, rfl⟩ (fun r2 T1 hw => ?_)
  refine t_if_ne C 13 7 dX1_longest_4 rfl rfl (fun hc3 => ?_) (fun hc3 => ?_)
  · replace hw := hw.2 hc3
    refine t_b C (pc' := 17) (L' := [(2, vI 0), (1, vI 0), (0, vA (some o))]) (st' := []) [(.iconst 0, 1), (.istore_n 1, 1), (.iconst 0, 1), (.istore_n 2, 1)] ⟨dX1_longest_13, dX1_longest_14, dX1_longest_15, dX1_longest_16, rfl⟩ rfl ?_
    obtain ⟨I4, ⟨n4, hI4⟩, hB4⟩ := tlp.out hw
    refine t_sub C (L' := [(0, vA (some o)), (1, vI 0), (2, vI 0)]) [2, 1, 0] rfl ?_
    have key4 : ∀ (n : Nat) (s4 : Int32 × Int32) (T5 : TS), I4 n s4 T5 → K 17 [(0, vA (some o)), (1, vI (s4.1)), (2, vI (s4.2))] [] T5 := by
      intro n
      induction n using Nat.strongRecOn with
      | ind n ih4 =>
        intro s4 T5 hI
        replace hw := hB4 n s4 T5 hI
        refine t_b C (pc' := 19) (L' := [(0, vA (some o)), (1, vI (s4.1)), (2, vI (s4.2))]) (st' := [vA (some o), vI (s4.2)]) [(.iload_n 2, 1), (.aload_n 0, 1)] ⟨dX1_longest_17, dX1_longest_18, rfl⟩ rfl ?_
        refine t_gI C 272 22 dX1_longest_19 rfl rfl rfl q2260 (fun _ _ _ => rfl) ?_
        refine t_icmp_ge C 145 25 dX1_longest_22 rfl rfl (fun hc6 => ?_) (fun hc6 => ?_)
        · replace hw := hw.1 hc6
          refine t_b C (pc' := 147) (L' := [(0, vA (some o)), (1, vI (s4.1)), (2, vI (s4.2))]) (st' := [vI (s4.1), vA (some o)]) [(.aload_n 0, 1), (.iload_n 1, 1)] ⟨dX1_longest_145, dX1_longest_146, rfl⟩ rfl ?_
          refine t_callVI C 150 [vI (s4.1)] [] dX1_longest_147 rfl (ok_X1_gives hG hw) q2589 q2591 qs100 q159 q2592 hd_X1_gives ⟨rfl, rfl, rfl⟩ (fun r8 T7 hw => ?_)
          exact t_iret C dX1_longest_150 ⟨_, rfl, hw⟩
        · replace hw := hw.2 hc6
          refine t_b C (pc' := 26) (L' := [(0, vA (some o)), (1, vI (s4.1)), (2, vI (s4.2))]) (st' := [vA (some o)]) [(.aload_n 0, 1)] ⟨dX1_longest_25, rfl⟩ rfl ?_
          refine t_gA C 261 31 29 dX1_longest_26 rfl rfl rfl rfl rfl q2249 (fun _ _ _ => rfl) ?_
          refine t_b C (pc' := 30) (L' := [(0, vA (some o)), (1, vI (s4.1)), (2, vI (s4.2))]) (st' := [vI (s4.2), vA (some (o + 1 + 31))]) [(.iload_n 2, 1)] ⟨dX1_longest_29, rfl⟩ rfl ?_
          refine t_iald C 31 dX1_longest_30 rfl hw.1 ?_
          replace hw := hw.2
          refine t_b C (pc' := 33) (L' := [(3, vI (T5.a 31 (ni s4.2))), (0, vA (some o)), (1, vI (s4.1)), (2, vI (s4.2))]) (st' := [vA (some o)]) [(.istore_n 3, 1), (.aload_n 0, 1)] ⟨dX1_longest_31, dX1_longest_32, rfl⟩ rfl ?_
          refine t_gA C 274 43 36 dX1_longest_33 rfl rfl rfl rfl rfl q2262 (fun _ _ _ => rfl) ?_
          refine t_b C (pc' := 38) (L' := [(3, vI (T5.a 31 (ni s4.2))), (0, vA (some o)), (1, vI (s4.1)), (2, vI (s4.2))]) (st' := [vI 0, vI (T5.a 31 (ni s4.2)), vA (some (o + 1 + 43))]) [(.iload_n 3, 1), (.iconst 0, 1)] ⟨dX1_longest_36, dX1_longest_37, rfl⟩ rfl ?_
          refine t_iast C 39 dX1_longest_38 rfl hw.1 (fun T9 eT9 => ?_)
          replace hw := hw.2 T9 eT9
          refine t_b C (pc' := 40) (L' := [(3, vI (T5.a 31 (ni s4.2))), (0, vA (some o)), (1, vI (s4.1)), (2, vI (s4.2))]) (st' := [vA (some o)]) [(.aload_n 0, 1)] ⟨dX1_longest_39, rfl⟩ rfl ?_
          refine t_gA C 259 29 43 dX1_longest_40 rfl rfl rfl rfl rfl q2247 (fun _ _ _ => rfl) ?_
          refine t_b C (pc' := 44) (L' := [(3, vI (T5.a 31 (ni s4.2))), (0, vA (some o)), (1, vI (s4.1)), (2, vI (s4.2))]) (st' := [vI (T5.a 31 (ni s4.2)), vA (some (o + 1 + 29))]) [(.iload_n 3, 1)] ⟨dX1_longest_43, rfl⟩ rfl ?_
          refine t_iald C 45 dX1_longest_44 rfl hw.1 ?_
          replace hw := hw.2
          refine t_b C (pc' := 46) (L' := [(3, vI (T5.a 31 (ni s4.2))), (0, vA (some o)), (1, vI (s4.1)), (2, vI (s4.2))]) (st' := [vI (-1), vI (T9.a 29 (ni (T5.a 31 (ni s4.2))))]) [(.iconst (-1), 1)] ⟨dX1_longest_45, rfl⟩ rfl ?_
          refine t_icmp_eq C 52 49 dX1_longest_46 rfl rfl (fun hc10 => ?_) (fun hc10 => ?_)
          · replace hw := hw.1 hc10
            refine t_b C (pc' := 53) (L' := [(3, vI (T5.a 31 (ni s4.2))), (0, vA (some o)), (1, vI (s4.1)), (2, vI (s4.2))]) (st' := [vA (some o)]) [(.aload_n 0, 1)] ⟨dX1_longest_52, rfl⟩ rfl ?_
            refine t_gA C 274 43 56 dX1_longest_53 rfl rfl rfl rfl rfl q2262 (fun _ _ _ => rfl) ?_
            refine t_b C (pc' := 58) (L' := [(3, vI (T5.a 31 (ni s4.2))), (0, vA (some o)), (1, vI (s4.1)), (2, vI (s4.2))]) (st' := [vI 1, vI (T5.a 31 (ni s4.2)), vA (some (o + 1 + 43))]) [(.iload_n 3, 1), (.iconst 1, 1)] ⟨dX1_longest_56, dX1_longest_57, rfl⟩ rfl ?_
            refine t_iast C 59 dX1_longest_58 rfl hw.1 (fun T11 eT11 => ?_)
            replace hw := hw.2 T11 eT11
            refine t_b C (pc' := 62) (L' := [(4, vI 0), (3, vI (T5.a 31 (ni s4.2))), (0, vA (some o)), (1, vI (s4.1)), (2, vI (s4.2))]) (st' := []) [(.iconst 0, 1), (.istore 4, 2)] ⟨dX1_longest_59, dX1_longest_60, rfl⟩ rfl ?_
            obtain ⟨I12, ⟨n12, hI12⟩, hB12⟩ := tlp.out hw
            refine t_sub C (L' := [(0, vA (some o)), (1, vI (s4.1)), (2, vI (s4.2)), (3, vI (T5.a 31 (ni s4.2))), (4, vI 0)]) [2, 3, 4, 1, 0] rfl ?_
            have key12 : ∀ (n : Nat) (s12 : Int32) (T13 : TS), I12 n s12 T13 → K 62 [(0, vA (some o)), (1, vI (s4.1)), (2, vI (s4.2)), (3, vI (T5.a 31 (ni s4.2))), (4, vI s12)] [] T13 := by
              intro n
              induction n using Nat.strongRecOn with
              | ind n ih12 =>
                intro s12 T13 hI
                replace hw := hB12 n s12 T13 hI
                refine t_b C (pc' := 67) (L' := [(0, vA (some o)), (1, vI (s4.1)), (2, vI (s4.2)), (3, vI (T5.a 31 (ni s4.2))), (4, vI s12)]) (st' := [vA (some o), vI 8, vI s12]) [(.iload 4, 2), (.bipush 8, 2), (.aload_n 0, 1)] ⟨dX1_longest_62, dX1_longest_64, dX1_longest_66, rfl⟩ rfl ?_
                refine t_gI C 250 70 dX1_longest_67 rfl rfl rfl q2238 (fun _ _ _ => rfl) ?_
                refine t_b C (pc' := 71) (L' := [(0, vA (some o)), (1, vI (s4.1)), (2, vI (s4.2)), (3, vI (T5.a 31 (ni s4.2))), (4, vI s12)]) (st' := [vI (8 * (T13.s 250)), vI s12]) [(.imul, 1)] ⟨dX1_longest_70, rfl⟩ rfl ?_
                refine t_icmp_ge C 128 74 dX1_longest_71 rfl rfl (fun hc14 => ?_) (fun hc14 => ?_)
                · replace hw := hw.1 hc14
                  refine t_b C (pc' := 130) (L' := [(0, vA (some o)), (1, vI (s4.1)), (2, vI (s4.2)), (3, vI (T5.a 31 (ni s4.2))), (4, vI s12)]) (st' := [vA (some o), vI (s4.1)]) [(.iload_n 1, 1), (.aload_n 0, 1)] ⟨dX1_longest_128, dX1_longest_129, rfl⟩ rfl ?_
                  refine t_gA C 274 43 133 dX1_longest_130 rfl rfl rfl rfl rfl q2262 (fun _ _ _ => rfl) ?_
                  refine t_b C (pc' := 134) (L' := [(0, vA (some o)), (1, vI (s4.1)), (2, vI (s4.2)), (3, vI (T5.a 31 (ni s4.2))), (4, vI s12)]) (st' := [vI (T5.a 31 (ni s4.2)), vA (some (o + 1 + 43)), vI (s4.1)]) [(.iload_n 3, 1)] ⟨dX1_longest_133, rfl⟩ rfl ?_
                  refine t_iald C 135 dX1_longest_134 rfl hw.1 ?_
                  replace hw := hw.2
                  refine t_mmax C 138 [] dX1_longest_135 rfl q2828 q375 q166 q376 ⟨rfl, rfl⟩ ?_
                  refine t_b C (pc' := 142) (L' := [(2, vI (s4.2 + 1)), (1, vI (if s4.1 < (T13.a 43 (ni (T5.a 31 (ni s4.2)))) then (T13.a 43 (ni (T5.a 31 (ni s4.2)))) else s4.1)), (0, vA (some o)), (3, vI (T5.a 31 (ni s4.2))), (4, vI s12)]) (st' := []) [(.istore_n 1, 1), (.iinc 2 1, 3)] ⟨dX1_longest_138, dX1_longest_139, rfl⟩ rfl ?_
                  refine t_goto C 17 dX1_longest_142 rfl ?_
                  refine t_sub C (L' := [(0, vA (some o)), (1, vI (if s4.1 < (T13.a 43 (ni (T5.a 31 (ni s4.2)))) then (T13.a 43 (ni (T5.a 31 (ni s4.2)))) else s4.1)), (2, vI (s4.2 + 1))]) [2, 1, 0] rfl ?_
                  obtain ⟨m9, hm9, hw⟩ := hw
                  exact ih4 m9 hm9 ((if s4.1 < (T13.a 43 (ni (T5.a 31 (ni s4.2)))) then (T13.a 43 (ni (T5.a 31 (ni s4.2)))) else s4.1), (s4.2 + 1)) T13 hw
                · replace hw := hw.2 hc14
                  refine t_b C (pc' := 75) (L' := [(0, vA (some o)), (1, vI (s4.1)), (2, vI (s4.2)), (3, vI (T5.a 31 (ni s4.2))), (4, vI s12)]) (st' := [vA (some o)]) [(.aload_n 0, 1)] ⟨dX1_longest_74, rfl⟩ rfl ?_
                  refine t_gA C 264 34 78 dX1_longest_75 rfl rfl rfl rfl rfl q2252 (fun _ _ _ => rfl) ?_
                  refine t_b C (pc' := 81) (L' := [(0, vA (some o)), (1, vI (s4.1)), (2, vI (s4.2)), (3, vI (T5.a 31 (ni s4.2))), (4, vI s12)]) (st' := [vI s12, vI (T5.a 31 (ni s4.2)), vA (some (o + 1 + 34))]) [(.iload_n 3, 1), (.iload 4, 2)] ⟨dX1_longest_78, dX1_longest_79, rfl⟩ rfl ?_
                  refine t_callSI C 84 [vA (some (o + 1 + 34)), vI (T5.a 31 (ni s4.2)), vI s12] [] dX1_longest_81 rfl (ok_X1_bit hG hw) q2806 q2807 q159 q2808 hd_X1_bit ⟨rfl, rfl, rfl⟩ (fun r16 T15 hw => ?_)
                  refine t_if_eq C 122 87 dX1_longest_84 rfl rfl (fun hc17 => ?_) (fun hc17 => ?_)
                  · replace hw := hw.1 hc17
                    refine t_b C (pc' := 125) (L' := [(4, vI (s12 + 1)), (0, vA (some o)), (1, vI (s4.1)), (2, vI (s4.2)), (3, vI (T5.a 31 (ni s4.2)))]) (st' := []) [(.iinc 4 1, 3)] ⟨dX1_longest_122, rfl⟩ rfl ?_
                    refine t_goto C 62 dX1_longest_125 rfl ?_
                    refine t_sub C (L' := [(0, vA (some o)), (1, vI (s4.1)), (2, vI (s4.2)), (3, vI (T5.a 31 (ni s4.2))), (4, vI (s12 + 1))]) [1, 2, 3, 4, 0] rfl ?_
                    obtain ⟨m9, hm9, hw⟩ := hw
                    exact ih12 m9 hm9 (s12 + 1) T15 hw
                  · replace hw := hw.2 hc17
                    refine t_b C (pc' := 88) (L' := [(0, vA (some o)), (1, vI (s4.1)), (2, vI (s4.2)), (3, vI (T5.a 31 (ni s4.2))), (4, vI s12)]) (st' := [vA (some o)]) [(.aload_n 0, 1)] ⟨dX1_longest_87, rfl⟩ rfl ?_
                    refine t_gA C 259 29 91 dX1_longest_88 rfl rfl rfl rfl rfl q2247 (fun _ _ _ => rfl) ?_
                    refine t_b C (pc' := 93) (L' := [(0, vA (some o)), (1, vI (s4.1)), (2, vI (s4.2)), (3, vI (T5.a 31 (ni s4.2))), (4, vI s12)]) (st' := [vI s12, vA (some (o + 1 + 29))]) [(.iload 4, 2)] ⟨dX1_longest_91, rfl⟩ rfl ?_
                    refine t_iald C 94 dX1_longest_93 rfl hw.1 ?_
                    replace hw := hw.2
                    refine t_b C (pc' := 95) (L' := [(0, vA (some o)), (1, vI (s4.1)), (2, vI (s4.2)), (3, vI (T5.a 31 (ni s4.2))), (4, vI s12)]) (st' := [vI (-1), vI (T15.a 29 (ni s12))]) [(.iconst (-1), 1)] ⟨dX1_longest_94, rfl⟩ rfl ?_
                    refine t_icmp_ne C 122 98 dX1_longest_95 rfl rfl (fun hc18 => ?_) (fun hc18 => ?_)
                    · replace hw := hw.2 hc18
                      refine t_b C (pc' := 125) (L' := [(4, vI (s12 + 1)), (0, vA (some o)), (1, vI (s4.1)), (2, vI (s4.2)), (3, vI (T5.a 31 (ni s4.2)))]) (st' := []) [(.iinc 4 1, 3)] ⟨dX1_longest_122, rfl⟩ rfl ?_
                      refine t_goto C 62 dX1_longest_125 rfl ?_
                      refine t_sub C (L' := [(0, vA (some o)), (1, vI (s4.1)), (2, vI (s4.2)), (3, vI (T5.a 31 (ni s4.2))), (4, vI (s12 + 1))]) [1, 2, 3, 4, 0] rfl ?_
                      obtain ⟨m9, hm9, hw⟩ := hw
                      exact ih12 m9 hm9 (s12 + 1) T15 hw
                    · replace hw := hw.1 hc18
                      refine t_b C (pc' := 99) (L' := [(0, vA (some o)), (1, vI (s4.1)), (2, vI (s4.2)), (3, vI (T5.a 31 (ni s4.2))), (4, vI s12)]) (st' := [vA (some o)]) [(.aload_n 0, 1)] ⟨dX1_longest_98, rfl⟩ rfl ?_
                      refine t_gA C 274 43 102 dX1_longest_99 rfl rfl rfl rfl rfl q2262 (fun _ _ _ => rfl) ?_
                      refine t_b C (pc' := 104) (L' := [(0, vA (some o)), (1, vI (s4.1)), (2, vI (s4.2)), (3, vI (T5.a 31 (ni s4.2))), (4, vI s12)]) (st' := [vA (some o), vI (T5.a 31 (ni s4.2)), vA (some (o + 1 + 43))]) [(.iload_n 3, 1), (.aload_n 0, 1)] ⟨dX1_longest_102, dX1_longest_103, rfl⟩ rfl ?_
                      refine t_gA C 274 43 107 dX1_longest_104 rfl rfl rfl rfl rfl q2262 (fun _ _ _ => rfl) ?_
                      refine t_b C (pc' := 108) (L' := [(0, vA (some o)), (1, vI (s4.1)), (2, vI (s4.2)), (3, vI (T5.a 31 (ni s4.2))), (4, vI s12)]) (st' := [vI (T5.a 31 (ni s4.2)), vA (some (o + 1 + 43)), vI (T5.a 31 (ni s4.2)), vA (some (o + 1 + 43))]) [(.iload_n 3, 1)] ⟨dX1_longest_107, rfl⟩ rfl ?_
                      refine t_iald C 109 dX1_longest_108 rfl hw.1 ?_
                      replace hw := hw.2
                      refine t_b C (pc' := 110) (L' := [(0, vA (some o)), (1, vI (s4.1)), (2, vI (s4.2)), (3, vI (T5.a 31 (ni s4.2))), (4, vI s12)]) (st' := [vA (some o), vI (T15.a 43 (ni (T5.a 31 (ni s4.2)))), vI (T5.a 31 (ni s4.2)), vA (some (o + 1 + 43))]) [(.aload_n 0, 1)] ⟨dX1_longest_109, rfl⟩ rfl ?_
                      refine t_gA C 274 43 113 dX1_longest_110 rfl rfl rfl rfl rfl q2262 (fun _ _ _ => rfl) ?_
                      refine t_b C (pc' := 115) (L' := [(0, vA (some o)), (1, vI (s4.1)), (2, vI (s4.2)), (3, vI (T5.a 31 (ni s4.2))), (4, vI s12)]) (st' := [vI s12, vA (some (o + 1 + 43)), vI (T15.a 43 (ni (T5.a 31 (ni s4.2)))), vI (T5.a 31 (ni s4.2)), vA (some (o + 1 + 43))]) [(.iload 4, 2)] ⟨dX1_longest_113, rfl⟩ rfl ?_
                      refine t_iald C 116 dX1_longest_115 rfl hw.1 ?_
                      replace hw := hw.2
                      refine t_b C (pc' := 118) (L' := [(0, vA (some o)), (1, vI (s4.1)), (2, vI (s4.2)), (3, vI (T5.a 31 (ni s4.2))), (4, vI s12)]) (st' := [vI ((T15.a 43 (ni s12)) + 1), vI (T15.a 43 (ni (T5.a 31 (ni s4.2)))), vI (T5.a 31 (ni s4.2)), vA (some (o + 1 + 43))]) [(.iconst 1, 1), (.iadd, 1)] ⟨dX1_longest_116, dX1_longest_117, rfl⟩ rfl ?_
                      refine t_mmax C 121 [vI (T5.a 31 (ni s4.2)), vA (some (o + 1 + 43))] dX1_longest_118 rfl q2828 q375 q166 q376 ⟨rfl, rfl⟩ ?_
                      refine t_iast C 122 dX1_longest_121 rfl hw.1 (fun T19 eT19 => ?_)
                      replace hw := hw.2 T19 eT19
                      refine t_b C (pc' := 125) (L' := [(4, vI (s12 + 1)), (0, vA (some o)), (1, vI (s4.1)), (2, vI (s4.2)), (3, vI (T5.a 31 (ni s4.2)))]) (st' := []) [(.iinc 4 1, 3)] ⟨dX1_longest_122, rfl⟩ rfl ?_
                      refine t_goto C 62 dX1_longest_125 rfl ?_
                      refine t_sub C (L' := [(0, vA (some o)), (1, vI (s4.1)), (2, vI (s4.2)), (3, vI (T5.a 31 (ni s4.2))), (4, vI (s12 + 1))]) [1, 2, 3, 4, 0] rfl ?_
                      obtain ⟨m9, hm9, hw⟩ := hw
                      exact ih12 m9 hm9 (s12 + 1) T19 hw
            exact key12 n12 0 T11 hI12
          · replace hw := hw.2 hc10
            refine t_goto C 139 dX1_longest_49 rfl ?_
            refine t_b C (pc' := 142) (L' := [(2, vI (s4.2 + 1)), (3, vI (T5.a 31 (ni s4.2))), (0, vA (some o)), (1, vI (s4.1))]) (st' := []) [(.iinc 2 1, 3)] ⟨dX1_longest_139, rfl⟩ rfl ?_
            refine t_goto C 17 dX1_longest_142 rfl ?_
            refine t_sub C (L' := [(0, vA (some o)), (1, vI (s4.1)), (2, vI (s4.2 + 1))]) [2, 3, 0] rfl ?_
            obtain ⟨m9, hm9, hw⟩ := hw
            exact ih4 m9 hm9 (s4.1, (s4.2 + 1)) T9 hw
    exact key4 n4 (0, 0) T1 hI4
  · replace hw := hw.1 hc3
    refine t_b C (pc' := 9) (L' := [(0, vA (some o))]) (st' := [vI 3, vA (some o)]) [(.aload_n 0, 1), (.iconst 3, 1)] ⟨dX1_longest_7, dX1_longest_8, rfl⟩ rfl ?_
    refine t_callVI C 12 [vI 3] [] dX1_longest_9 rfl (ok_X1_refuse hG hw) q2434 q2436 qs70 q159 q2437 hd_X1_refuse ⟨rfl, rfl, rfl⟩ (fun r21 T20 hw => ?_)
    exact t_iret C dX1_longest_12 ⟨_, rfl, hw⟩
def wp_X1_many (p0 : Int32) (T : TS) (Q : Int32 → TS → Prop) : Prop :=
  wp_X1_isFrom p0 0 4 T fun r2 T1 =>
  ((r2 = 0 →
  wp_X1_refuse 1 T1 fun r21 T20 =>
  Q r21 T20) ∧ (¬ r2 = 0 →
  ((p0 = 4 →
  (((T1.s 250) = 0 →
  wp_X1_refuse 3 T1 fun r19 T18 =>
  Q r19 T18) ∧ (¬ (T1.s 250) = 0 →
  wp_X1_knots  T1 fun r15 T14 =>
  wp_X1_gives r15 T14 fun r17 T16 =>
  Q r17 T16))) ∧ (¬ p0 = 4 →
  ((p0 = 3 →
  wp_X1_gives (T1.s 250) T1 fun r12 T11 =>
  Q r12 T11) ∧ (¬ p0 = 3 →
  (((T1.s 209) = 0 →
  wp_X1_gives 0 T1 fun r8 T7 =>
  Q r8 T7) ∧ (¬ (T1.s 209) = 0 →
  tix 1 40 p0 ∧
  wp_X1_gives (T1.a 1 (ni p0)) T1 fun r10 T9 =>
  Q r10 T9))))))))
theorem hd_X1_many : yX1_many.cls = RX1 ∧ yX1_many.cls ≠ "java/lang/invoke/MethodHandle" ∧ yX1_many.cls ≠ "java/lang/invoke/VarHandle" ∧ (parseMethodDescriptor yX1_many.desc).map (fun d => d.parameters.length) = some 1 := by decide +kernel
theorem ok_X1_many {l : Launch} {D : va_G} {s0 : S0} (hG : G0 D s0) {o : Nat} {p0 : Int32} {T : TS} {Q : Int32 → TS → Prop} (hw : wp_X1_many p0 T Q) : OKt l D s0 o yX1_many cX1_many 2 (some .int) 1 22 [vA (some o), vI p0] T (TI Q) := by
  refine t_met hG rfl rfl (L0 := [(0, vA (some o)), (1, vI p0)]) rfl rfl ?_
  intro h K C
  unfold wp_X1_many at hw
  refine t_b C (pc' := 3) (L' := [(0, vA (some o)), (1, vI p0)]) (st' := [vI 4, vI 0, vI p0]) [(.iload_n 1, 1), (.iconst 0, 1), (.iconst 4, 1)] ⟨dX1_many_0, dX1_many_1, dX1_many_2, rfl⟩ rfl ?_
  refine t_callSI C 6 [vI p0, vI 0, vI 4] [] dX1_many_3 rfl (ok_X1_isFrom hG hw) q2431 q2432 q159 q2433 hd_X1_isFrom ⟨rfl, rfl, rfl⟩ (fun r2 T1 hw => ?_)
  refine t_if_ne C 15 9 dX1_many_6 rfl rfl (fun hc3 => ?_) (fun hc3 => ?_)
  · replace hw := hw.2 hc3
    refine t_b C (pc' := 17) (L' := [(0, vA (some o)), (1, vI p0)]) (st' := [vI 4, vI p0]) [(.iload_n 1, 1), (.iconst 4, 1)] ⟨dX1_many_15, dX1_many_16, rfl⟩ rfl ?_
    refine t_icmp_ne C 44 20 dX1_many_17 rfl rfl (fun hc4 => ?_) (fun hc4 => ?_)
    · replace hw := hw.2 hc4
      refine t_b C (pc' := 46) (L' := [(0, vA (some o)), (1, vI p0)]) (st' := [vI 3, vI p0]) [(.iload_n 1, 1), (.iconst 3, 1)] ⟨dX1_many_44, dX1_many_45, rfl⟩ rfl ?_
      refine t_icmp_ne C 58 49 dX1_many_46 rfl rfl (fun hc5 => ?_) (fun hc5 => ?_)
      · replace hw := hw.2 hc5
        refine t_b C (pc' := 60) (L' := [(0, vA (some o)), (1, vI p0)]) (st' := [vA (some o), vA (some o)]) [(.aload_n 0, 1), (.aload_n 0, 1)] ⟨dX1_many_58, dX1_many_59, rfl⟩ rfl ?_
        refine t_gI C 209 63 dX1_many_60 rfl rfl rfl q2197 (fun _ _ _ => rfl) ?_
        refine t_if_eq C 75 66 dX1_many_63 rfl rfl (fun hc6 => ?_) (fun hc6 => ?_)
        · replace hw := hw.1 hc6
          refine t_b C (pc' := 76) (L' := [(0, vA (some o)), (1, vI p0)]) (st' := [vI 0, vA (some o)]) [(.iconst 0, 1)] ⟨dX1_many_75, rfl⟩ rfl ?_
          refine t_callVI C 79 [vI 0] [] dX1_many_76 rfl (ok_X1_gives hG hw) q2589 q2591 qs100 q159 q2592 hd_X1_gives ⟨rfl, rfl, rfl⟩ (fun r8 T7 hw => ?_)
          exact t_iret C dX1_many_79 ⟨_, rfl, hw⟩
        · replace hw := hw.2 hc6
          refine t_b C (pc' := 67) (L' := [(0, vA (some o)), (1, vI p0)]) (st' := [vA (some o), vA (some o)]) [(.aload_n 0, 1)] ⟨dX1_many_66, rfl⟩ rfl ?_
          refine t_gA C 201 1 70 dX1_many_67 rfl rfl rfl rfl rfl q2189 (fun _ _ _ => rfl) ?_
          refine t_b C (pc' := 71) (L' := [(0, vA (some o)), (1, vI p0)]) (st' := [vI p0, vA (some (o + 1 + 1)), vA (some o)]) [(.iload_n 1, 1)] ⟨dX1_many_70, rfl⟩ rfl ?_
          refine t_iald C 72 dX1_many_71 rfl hw.1 ?_
          replace hw := hw.2
          refine t_goto C 76 dX1_many_72 rfl ?_
          refine t_callVI C 79 [vI (T1.a 1 (ni p0))] [] dX1_many_76 rfl (ok_X1_gives hG hw) q2589 q2591 qs100 q159 q2592 hd_X1_gives ⟨rfl, rfl, rfl⟩ (fun r10 T9 hw => ?_)
          exact t_iret C dX1_many_79 ⟨_, rfl, hw⟩
      · replace hw := hw.1 hc5
        refine t_b C (pc' := 51) (L' := [(0, vA (some o)), (1, vI p0)]) (st' := [vA (some o), vA (some o)]) [(.aload_n 0, 1), (.aload_n 0, 1)] ⟨dX1_many_49, dX1_many_50, rfl⟩ rfl ?_
        refine t_gI C 250 54 dX1_many_51 rfl rfl rfl q2238 (fun _ _ _ => rfl) ?_
        refine t_callVI C 57 [vI (T1.s 250)] [] dX1_many_54 rfl (ok_X1_gives hG hw) q2589 q2591 qs100 q159 q2592 hd_X1_gives ⟨rfl, rfl, rfl⟩ (fun r12 T11 hw => ?_)
        exact t_iret C dX1_many_57 ⟨_, rfl, hw⟩
    · replace hw := hw.1 hc4
      refine t_b C (pc' := 21) (L' := [(0, vA (some o)), (1, vI p0)]) (st' := [vA (some o)]) [(.aload_n 0, 1)] ⟨dX1_many_20, rfl⟩ rfl ?_
      refine t_gI C 250 24 dX1_many_21 rfl rfl rfl q2238 (fun _ _ _ => rfl) ?_
      refine t_if_ne C 35 27 dX1_many_24 rfl rfl (fun hc13 => ?_) (fun hc13 => ?_)
      · replace hw := hw.2 hc13
        refine t_b C (pc' := 37) (L' := [(0, vA (some o)), (1, vI p0)]) (st' := [vA (some o), vA (some o)]) [(.aload_n 0, 1), (.aload_n 0, 1)] ⟨dX1_many_35, dX1_many_36, rfl⟩ rfl ?_
        refine t_callVI C 40 [] [vA (some o)] dX1_many_37 rfl (ok_X1_knots hG hw) q2601 q2603 qs101 q159 q2604 hd_X1_knots ⟨rfl, rfl, rfl⟩ (fun r15 T14 hw => ?_)
        refine t_callVI C 43 [vI r15] [] dX1_many_40 rfl (ok_X1_gives hG hw) q2589 q2591 qs100 q159 q2592 hd_X1_gives ⟨rfl, rfl, rfl⟩ (fun r17 T16 hw => ?_)
        exact t_iret C dX1_many_43 ⟨_, rfl, hw⟩
      · replace hw := hw.1 hc13
        refine t_b C (pc' := 29) (L' := [(0, vA (some o)), (1, vI p0)]) (st' := [vI 3, vA (some o)]) [(.aload_n 0, 1), (.iconst 3, 1)] ⟨dX1_many_27, dX1_many_28, rfl⟩ rfl ?_
        refine t_callVI C 32 [vI 3] [] dX1_many_29 rfl (ok_X1_refuse hG hw) q2434 q2436 qs70 q159 q2437 hd_X1_refuse ⟨rfl, rfl, rfl⟩ (fun r19 T18 hw => ?_)
        refine t_goto C 43 dX1_many_32 rfl ?_
        exact t_iret C dX1_many_43 ⟨_, rfl, hw⟩
  · replace hw := hw.1 hc3
    refine t_b C (pc' := 11) (L' := [(0, vA (some o)), (1, vI p0)]) (st' := [vI 1, vA (some o)]) [(.aload_n 0, 1), (.iconst 1, 1)] ⟨dX1_many_9, dX1_many_10, rfl⟩ rfl ?_
    refine t_callVI C 14 [vI 1] [] dX1_many_11 rfl (ok_X1_refuse hG hw) q2434 q2436 qs70 q159 q2437 hd_X1_refuse ⟨rfl, rfl, rfl⟩ (fun r21 T20 hw => ?_)
    exact t_iret C dX1_many_14 ⟨_, rfl, hw⟩
def wp_X1_node (p0 : Int32) (p1 : Int32) (T : TS) (Q : Int32 → TS → Prop) : Prop :=
  wp_X1_isFrom p1 0 8 T fun r2 T1 =>
  ((r2 = 0 →
  wp_X1_refuse 1 T1 fun r48 T47 =>
  Q r48 T47) ∧ (¬ r2 = 0 →
  (((T1.s 250) = 0 →
  wp_X1_refuse 3 T1 fun r46 T45 =>
  Q r46 T45) ∧ (¬ (T1.s 250) = 0 →
  wp_X1_isNode p0 T1 fun r6 T5 =>
  ((r6 = 0 →
  wp_X1_refuse 4 T5 fun r44 T43 =>
  Q r44 T43) ∧ (¬ r6 = 0 →
  (((p1 = 0) →
  tix 19 40 p0 ∧
  wp_X1_gives (T5.a 19 (ni p0)) T5 fun r10 T9 =>
  Q r10 T9) ∧ (¬ (p1 = 0) →
  (((p1 = 1) →
  tix 20 40 p0 ∧
  wp_X1_gives (T5.a 20 (ni p0)) T5 fun r14 T13 =>
  Q r14 T13) ∧ (¬ (p1 = 1) →
  (((p1 = 2) →
  tix 21 40 p0 ∧
  wp_X1_gives (T5.a 21 (ni p0)) T5 fun r18 T17 =>
  Q r18 T17) ∧ (¬ (p1 = 2) →
  (((p1 = 3) →
  tix 19 40 p0 ∧
  tix 1 40 (32 + (T5.a 19 (ni p0))) ∧
  wp_X1_gives (T5.a 1 (ni (32 + (T5.a 19 (ni p0))))) T5 fun r22 T21 =>
  Q r22 T21) ∧ (¬ (p1 = 3) →
  (((p1 = 4 ∨ p1 = 5 ∨ p1 = 6) →
  tix 19 40 p0 ∧
  tix 1 40 (32 + (T5.a 19 (ni p0))) ∧
  (((T5.a 1 (ni (32 + (T5.a 19 (ni p0))))) ≤ (p1 - 4) →
  wp_X1_refuse 7 T5 fun r27 T26 =>
  Q r27 T26) ∧ (¬ (T5.a 1 (ni (32 + (T5.a 19 (ni p0))))) ≤ (p1 - 4) →
  wp_X1_child p0 (p1 - 4) T5 fun r29 T28 =>
  wp_X1_gives r29 T28 fun r31 T30 =>
  Q r31 T30))) ∧ (¬ (p1 = 4 ∨ p1 = 5 ∨ p1 = 6) →
  (((p1 = 7) →
  wp_X1_sizeOf p0 T5 fun r35 T34 =>
  wp_X1_gives r35 T34 fun r37 T36 =>
  Q r37 T36) ∧ (¬ (p1 = 7) →
  wp_X1_depthOf 16 p0 T5 fun r40 T39 =>
  wp_X1_gives r40 T39 fun r42 T41 =>
  Q r42 T41))))))))))))))))))
theorem hd_X1_node : yX1_node.cls = RX1 ∧ yX1_node.cls ≠ "java/lang/invoke/MethodHandle" ∧ yX1_node.cls ≠ "java/lang/invoke/VarHandle" ∧ (parseMethodDescriptor yX1_node.desc).map (fun d => d.parameters.length) = some 2 := by decide +kernel
theorem ok_X1_node {l : Launch} {D : va_G} {s0 : S0} (hG : G0 D s0) {o : Nat} {p0 : Int32} {p1 : Int32} {T : TS} {Q : Int32 → TS → Prop} (hw : wp_X1_node p0 p1 T Q) : OKt l D s0 o yX1_node cX1_node 3 (some .int) 17 357 [vA (some o), vI p0, vI p1] T (TI Q) := by
  refine t_met hG rfl rfl (L0 := [(0, vA (some o)), (1, vI p0), (2, vI p1)]) rfl rfl ?_
  intro h K C
  unfold wp_X1_node at hw
  refine t_b C (pc' := 4) (L' := [(0, vA (some o)), (1, vI p0), (2, vI p1)]) (st' := [vI 8, vI 0, vI p1]) [(.iload_n 2, 1), (.iconst 0, 1), (.bipush 8, 2)] ⟨dX1_node_0, dX1_node_1, dX1_node_2, rfl⟩ rfl ?_
  refine t_callSI C 7 [vI p1, vI 0, vI 8] [] dX1_node_4 rfl (ok_X1_isFrom hG hw) q2431 q2432 q159 q2433 hd_X1_isFrom ⟨rfl, rfl, rfl⟩ (fun r2 T1 hw => ?_)
  refine t_if_ne C 16 10 dX1_node_7 rfl rfl (fun hc3 => ?_) (fun hc3 => ?_)
  · replace hw := hw.2 hc3
    refine t_b C (pc' := 17) (L' := [(0, vA (some o)), (1, vI p0), (2, vI p1)]) (st' := [vA (some o)]) [(.aload_n 0, 1)] ⟨dX1_node_16, rfl⟩ rfl ?_
    refine t_gI C 250 20 dX1_node_17 rfl rfl rfl q2238 (fun _ _ _ => rfl) ?_
    refine t_if_ne C 29 23 dX1_node_20 rfl rfl (fun hc4 => ?_) (fun hc4 => ?_)
    · replace hw := hw.2 hc4
      refine t_b C (pc' := 31) (L' := [(0, vA (some o)), (1, vI p0), (2, vI p1)]) (st' := [vI p0, vA (some o)]) [(.aload_n 0, 1), (.iload_n 1, 1)] ⟨dX1_node_29, dX1_node_30, rfl⟩ rfl ?_
      refine t_callVI C 34 [vI p0] [] dX1_node_31 rfl (ok_X1_isNode hG hw) q2778 q2780 qs134 q159 q2781 hd_X1_isNode ⟨rfl, rfl, rfl⟩ (fun r6 T5 hw => ?_)
      refine t_if_ne C 43 37 dX1_node_34 rfl rfl (fun hc7 => ?_) (fun hc7 => ?_)
      · replace hw := hw.2 hc7
        refine t_b C (pc' := 44) (L' := [(0, vA (some o)), (1, vI p0), (2, vI p1)]) (st' := [vI p1]) [(.iload_n 2, 1)] ⟨dX1_node_43, rfl⟩ rfl ?_
        have ks8 : (p1 = 0) → K 92 [(0, vA (some o)), (1, vI p0), (2, vI p1)] [] T5 := by
          intro hcc
          replace hw := hw.1 hcc
          refine t_b C (pc' := 94) (L' := [(0, vA (some o)), (1, vI p0), (2, vI p1)]) (st' := [vA (some o), vA (some o)]) [(.aload_n 0, 1), (.aload_n 0, 1)] ⟨dX1_node_92, dX1_node_93, rfl⟩ rfl ?_
          refine t_gA C 243 19 97 dX1_node_94 rfl rfl rfl rfl rfl q2231 (fun _ _ _ => rfl) ?_
          refine t_b C (pc' := 98) (L' := [(0, vA (some o)), (1, vI p0), (2, vI p1)]) (st' := [vI p0, vA (some (o + 1 + 19)), vA (some o)]) [(.iload_n 1, 1)] ⟨dX1_node_97, rfl⟩ rfl ?_
          refine t_iald C 99 dX1_node_98 rfl hw.1 ?_
          replace hw := hw.2
          refine t_callVI C 102 [vI (T5.a 19 (ni p0))] [] dX1_node_99 rfl (ok_X1_gives hG hw) q2589 q2591 qs100 q159 q2592 hd_X1_gives ⟨rfl, rfl, rfl⟩ (fun r10 T9 hw => ?_)
          exact t_iret C dX1_node_102 ⟨_, rfl, hw⟩
        by_cases hs11 : (p1 = 0)
        · refine t_tabIn C (v := 0) 92 dX1_node_44 hs11 rfl rfl rfl rfl ?_
          exact ks8 hs11
        replace hw := hw.2 hs11
        have ks12 : (p1 = 1) → K 103 [(0, vA (some o)), (1, vI p0), (2, vI p1)] [] T5 := by
          intro hcc
          replace hw := hw.1 hcc
          refine t_b C (pc' := 105) (L' := [(0, vA (some o)), (1, vI p0), (2, vI p1)]) (st' := [vA (some o), vA (some o)]) [(.aload_n 0, 1), (.aload_n 0, 1)] ⟨dX1_node_103, dX1_node_104, rfl⟩ rfl ?_
          refine t_gA C 244 20 108 dX1_node_105 rfl rfl rfl rfl rfl q2232 (fun _ _ _ => rfl) ?_
          refine t_b C (pc' := 109) (L' := [(0, vA (some o)), (1, vI p0), (2, vI p1)]) (st' := [vI p0, vA (some (o + 1 + 20)), vA (some o)]) [(.iload_n 1, 1)] ⟨dX1_node_108, rfl⟩ rfl ?_
          refine t_iald C 110 dX1_node_109 rfl hw.1 ?_
          replace hw := hw.2
          refine t_callVI C 113 [vI (T5.a 20 (ni p0))] [] dX1_node_110 rfl (ok_X1_gives hG hw) q2589 q2591 qs100 q159 q2592 hd_X1_gives ⟨rfl, rfl, rfl⟩ (fun r14 T13 hw => ?_)
          exact t_iret C dX1_node_113 ⟨_, rfl, hw⟩
        by_cases hs15 : (p1 = 1)
        · refine t_tabIn C (v := 1) 103 dX1_node_44 hs15 rfl rfl rfl rfl ?_
          exact ks12 hs15
        replace hw := hw.2 hs15
        have ks16 : (p1 = 2) → K 114 [(0, vA (some o)), (1, vI p0), (2, vI p1)] [] T5 := by
          intro hcc
          replace hw := hw.1 hcc
          refine t_b C (pc' := 116) (L' := [(0, vA (some o)), (1, vI p0), (2, vI p1)]) (st' := [vA (some o), vA (some o)]) [(.aload_n 0, 1), (.aload_n 0, 1)] ⟨dX1_node_114, dX1_node_115, rfl⟩ rfl ?_
          refine t_gA C 245 21 119 dX1_node_116 rfl rfl rfl rfl rfl q2233 (fun _ _ _ => rfl) ?_
          refine t_b C (pc' := 120) (L' := [(0, vA (some o)), (1, vI p0), (2, vI p1)]) (st' := [vI p0, vA (some (o + 1 + 21)), vA (some o)]) [(.iload_n 1, 1)] ⟨dX1_node_119, rfl⟩ rfl ?_
          refine t_iald C 121 dX1_node_120 rfl hw.1 ?_
          replace hw := hw.2
          refine t_callVI C 124 [vI (T5.a 21 (ni p0))] [] dX1_node_121 rfl (ok_X1_gives hG hw) q2589 q2591 qs100 q159 q2592 hd_X1_gives ⟨rfl, rfl, rfl⟩ (fun r18 T17 hw => ?_)
          exact t_iret C dX1_node_124 ⟨_, rfl, hw⟩
        by_cases hs19 : (p1 = 2)
        · refine t_tabIn C (v := 2) 114 dX1_node_44 hs19 rfl rfl rfl rfl ?_
          exact ks16 hs19
        replace hw := hw.2 hs19
        have ks20 : (p1 = 3) → K 125 [(0, vA (some o)), (1, vI p0), (2, vI p1)] [] T5 := by
          intro hcc
          replace hw := hw.1 hcc
          refine t_b C (pc' := 127) (L' := [(0, vA (some o)), (1, vI p0), (2, vI p1)]) (st' := [vA (some o), vA (some o)]) [(.aload_n 0, 1), (.aload_n 0, 1)] ⟨dX1_node_125, dX1_node_126, rfl⟩ rfl ?_
          refine t_gA C 201 1 130 dX1_node_127 rfl rfl rfl rfl rfl q2189 (fun _ _ _ => rfl) ?_
          refine t_b C (pc' := 133) (L' := [(0, vA (some o)), (1, vI p0), (2, vI p1)]) (st' := [vA (some o), vI 32, vA (some (o + 1 + 1)), vA (some o)]) [(.bipush 32, 2), (.aload_n 0, 1)] ⟨dX1_node_130, dX1_node_132, rfl⟩ rfl ?_
          refine t_gA C 243 19 136 dX1_node_133 rfl rfl rfl rfl rfl q2231 (fun _ _ _ => rfl) ?_
          refine t_b C (pc' := 137) (L' := [(0, vA (some o)), (1, vI p0), (2, vI p1)]) (st' := [vI p0, vA (some (o + 1 + 19)), vI 32, vA (some (o + 1 + 1)), vA (some o)]) [(.iload_n 1, 1)] ⟨dX1_node_136, rfl⟩ rfl ?_
          refine t_iald C 138 dX1_node_137 rfl hw.1 ?_
          replace hw := hw.2
          refine t_b C (pc' := 139) (L' := [(0, vA (some o)), (1, vI p0), (2, vI p1)]) (st' := [vI (32 + (T5.a 19 (ni p0))), vA (some (o + 1 + 1)), vA (some o)]) [(.iadd, 1)] ⟨dX1_node_138, rfl⟩ rfl ?_
          refine t_iald C 140 dX1_node_139 rfl hw.1 ?_
          replace hw := hw.2
          refine t_callVI C 143 [vI (T5.a 1 (ni (32 + (T5.a 19 (ni p0)))))] [] dX1_node_140 rfl (ok_X1_gives hG hw) q2589 q2591 qs100 q159 q2592 hd_X1_gives ⟨rfl, rfl, rfl⟩ (fun r22 T21 hw => ?_)
          exact t_iret C dX1_node_143 ⟨_, rfl, hw⟩
        by_cases hs23 : (p1 = 3)
        · refine t_tabIn C (v := 3) 125 dX1_node_44 hs23 rfl rfl rfl rfl ?_
          exact ks20 hs23
        replace hw := hw.2 hs23
        have ks24 : (p1 = 4 ∨ p1 = 5 ∨ p1 = 6) → K 144 [(0, vA (some o)), (1, vI p0), (2, vI p1)] [] T5 := by
          intro hcc
          replace hw := hw.1 hcc
          refine t_b C (pc' := 148) (L' := [(0, vA (some o)), (1, vI p0), (2, vI p1)]) (st' := [vA (some o), vI (p1 - 4)]) [(.iload_n 2, 1), (.iconst 4, 1), (.isub, 1), (.aload_n 0, 1)] ⟨dX1_node_144, dX1_node_145, dX1_node_146, dX1_node_147, rfl⟩ rfl ?_
          refine t_gA C 201 1 151 dX1_node_148 rfl rfl rfl rfl rfl q2189 (fun _ _ _ => rfl) ?_
          refine t_b C (pc' := 154) (L' := [(0, vA (some o)), (1, vI p0), (2, vI p1)]) (st' := [vA (some o), vI 32, vA (some (o + 1 + 1)), vI (p1 - 4)]) [(.bipush 32, 2), (.aload_n 0, 1)] ⟨dX1_node_151, dX1_node_153, rfl⟩ rfl ?_
          refine t_gA C 243 19 157 dX1_node_154 rfl rfl rfl rfl rfl q2231 (fun _ _ _ => rfl) ?_
          refine t_b C (pc' := 158) (L' := [(0, vA (some o)), (1, vI p0), (2, vI p1)]) (st' := [vI p0, vA (some (o + 1 + 19)), vI 32, vA (some (o + 1 + 1)), vI (p1 - 4)]) [(.iload_n 1, 1)] ⟨dX1_node_157, rfl⟩ rfl ?_
          refine t_iald C 159 dX1_node_158 rfl hw.1 ?_
          replace hw := hw.2
          refine t_b C (pc' := 160) (L' := [(0, vA (some o)), (1, vI p0), (2, vI p1)]) (st' := [vI (32 + (T5.a 19 (ni p0))), vA (some (o + 1 + 1)), vI (p1 - 4)]) [(.iadd, 1)] ⟨dX1_node_159, rfl⟩ rfl ?_
          refine t_iald C 161 dX1_node_160 rfl hw.1 ?_
          replace hw := hw.2
          refine t_icmp_ge C 179 164 dX1_node_161 rfl rfl (fun hc25 => ?_) (fun hc25 => ?_)
          · replace hw := hw.1 hc25
            refine t_b C (pc' := 182) (L' := [(0, vA (some o)), (1, vI p0), (2, vI p1)]) (st' := [vI 7, vA (some o)]) [(.aload_n 0, 1), (.bipush 7, 2)] ⟨dX1_node_179, dX1_node_180, rfl⟩ rfl ?_
            refine t_callVI C 185 [vI 7] [] dX1_node_182 rfl (ok_X1_refuse hG hw) q2434 q2436 qs70 q159 q2437 hd_X1_refuse ⟨rfl, rfl, rfl⟩ (fun r27 T26 hw => ?_)
            exact t_iret C dX1_node_185 ⟨_, rfl, hw⟩
          · replace hw := hw.2 hc25
            refine t_b C (pc' := 170) (L' := [(0, vA (some o)), (1, vI p0), (2, vI p1)]) (st' := [vI (p1 - 4), vI p0, vA (some o), vA (some o)]) [(.aload_n 0, 1), (.aload_n 0, 1), (.iload_n 1, 1), (.iload_n 2, 1), (.iconst 4, 1), (.isub, 1)] ⟨dX1_node_164, dX1_node_165, dX1_node_166, dX1_node_167, dX1_node_168, dX1_node_169, rfl⟩ rfl ?_
            refine t_callVI C 173 [vI p0, vI (p1 - 4)] [vA (some o)] dX1_node_170 rfl (ok_X1_child hG hw) q2802 q2804 qs140 q159 q2805 hd_X1_child ⟨rfl, rfl, rfl⟩ (fun r29 T28 hw => ?_)
            refine t_callVI C 176 [vI r29] [] dX1_node_173 rfl (ok_X1_gives hG hw) q2589 q2591 qs100 q159 q2592 hd_X1_gives ⟨rfl, rfl, rfl⟩ (fun r31 T30 hw => ?_)
            refine t_goto C 185 dX1_node_176 rfl ?_
            exact t_iret C dX1_node_185 ⟨_, rfl, hw⟩
        by_cases hs32 : (p1 = 4 ∨ p1 = 5 ∨ p1 = 6)
        · rcases hs32 with hs32 | hs32 | hs32
          · refine t_tabIn C (v := 4) 144 dX1_node_44 hs32 rfl rfl rfl rfl ?_
            exact ks24 (Or.inl hs32)
          · refine t_tabIn C (v := 5) 144 dX1_node_44 hs32 rfl rfl rfl rfl ?_
            exact ks24 (Or.inr (Or.inl hs32))
          · refine t_tabIn C (v := 6) 144 dX1_node_44 hs32 rfl rfl rfl rfl ?_
            exact ks24 (Or.inr (Or.inr hs32))
        replace hw := hw.2 hs32
        have ks33 : (p1 = 7) → K 186 [(0, vA (some o)), (1, vI p0), (2, vI p1)] [] T5 := by
          intro hcc
          replace hw := hw.1 hcc
          refine t_b C (pc' := 189) (L' := [(0, vA (some o)), (1, vI p0), (2, vI p1)]) (st' := [vI p0, vA (some o), vA (some o)]) [(.aload_n 0, 1), (.aload_n 0, 1), (.iload_n 1, 1)] ⟨dX1_node_186, dX1_node_187, dX1_node_188, rfl⟩ rfl ?_
          refine t_callVI C 192 [vI p0] [vA (some o)] dX1_node_189 rfl (ok_X1_sizeOf hG hw) q2837 q2839 qs146 q159 q2840 hd_X1_sizeOf ⟨rfl, rfl, rfl⟩ (fun r35 T34 hw => ?_)
          refine t_callVI C 195 [vI r35] [] dX1_node_192 rfl (ok_X1_gives hG hw) q2589 q2591 qs100 q159 q2592 hd_X1_gives ⟨rfl, rfl, rfl⟩ (fun r37 T36 hw => ?_)
          exact t_iret C dX1_node_195 ⟨_, rfl, hw⟩
        by_cases hs38 : (p1 = 7)
        · refine t_tabIn C (v := 7) 186 dX1_node_44 hs38 rfl rfl rfl rfl ?_
          exact ks33 hs38
        replace hw := hw.2 hs38
        have ht0 : ¬ (p1).toInt = 0 := lv_neT hs11 (by decide)
        have ht1 : ¬ (p1).toInt = 1 := lv_neT hs15 (by decide)
        have ht2 : ¬ (p1).toInt = 2 := lv_neT hs19 (by decide)
        have ht3 : ¬ (p1).toInt = 3 := lv_neT hs23 (by decide)
        have ht4 : ¬ (p1).toInt = 4 := lv_neT (fun q => hs32 (Or.inl q)) (by decide)
        have ht5 : ¬ (p1).toInt = 5 := lv_neT (fun q => hs32 (Or.inr (Or.inl q))) (by decide)
        have ht6 : ¬ (p1).toInt = 6 := lv_neT (fun q => hs32 (Or.inr (Or.inr q))) (by decide)
        have ht7 : ¬ (p1).toInt = 7 := lv_neT hs38 (by decide)
        refine t_tabOut C 196 dX1_node_44 (by omega) rfl ?_
        refine t_b C (pc' := 199) (L' := [(0, vA (some o)), (1, vI p0), (2, vI p1)]) (st' := [vI p0, vA (some o), vA (some o)]) [(.aload_n 0, 1), (.aload_n 0, 1), (.iload_n 1, 1)] ⟨dX1_node_196, dX1_node_197, dX1_node_198, rfl⟩ rfl ?_
        refine t_callVI C 202 [vI p0] [vA (some o)] dX1_node_199 rfl (ok_X1_depthOf hG 16 hw) q2841 q2843 qs147 q159 q2844 hd_X1_depthOf ⟨rfl, rfl, rfl⟩ (fun r40 T39 hw => ?_)
        refine t_callVI C 205 [vI r40] [] dX1_node_202 rfl (ok_X1_gives hG hw) q2589 q2591 qs100 q159 q2592 hd_X1_gives ⟨rfl, rfl, rfl⟩ (fun r42 T41 hw => ?_)
        exact t_iret C dX1_node_205 ⟨_, rfl, hw⟩
      · replace hw := hw.1 hc7
        refine t_b C (pc' := 39) (L' := [(0, vA (some o)), (1, vI p0), (2, vI p1)]) (st' := [vI 4, vA (some o)]) [(.aload_n 0, 1), (.iconst 4, 1)] ⟨dX1_node_37, dX1_node_38, rfl⟩ rfl ?_
        refine t_callVI C 42 [vI 4] [] dX1_node_39 rfl (ok_X1_refuse hG hw) q2434 q2436 qs70 q159 q2437 hd_X1_refuse ⟨rfl, rfl, rfl⟩ (fun r44 T43 hw => ?_)
        exact t_iret C dX1_node_42 ⟨_, rfl, hw⟩
    · replace hw := hw.1 hc4
      refine t_b C (pc' := 25) (L' := [(0, vA (some o)), (1, vI p0), (2, vI p1)]) (st' := [vI 3, vA (some o)]) [(.aload_n 0, 1), (.iconst 3, 1)] ⟨dX1_node_23, dX1_node_24, rfl⟩ rfl ?_
      refine t_callVI C 28 [vI 3] [] dX1_node_25 rfl (ok_X1_refuse hG hw) q2434 q2436 qs70 q159 q2437 hd_X1_refuse ⟨rfl, rfl, rfl⟩ (fun r46 T45 hw => ?_)
      exact t_iret C dX1_node_28 ⟨_, rfl, hw⟩
  · replace hw := hw.1 hc3
    refine t_b C (pc' := 12) (L' := [(0, vA (some o)), (1, vI p0), (2, vI p1)]) (st' := [vI 1, vA (some o)]) [(.aload_n 0, 1), (.iconst 1, 1)] ⟨dX1_node_10, dX1_node_11, rfl⟩ rfl ?_
    refine t_callVI C 15 [vI 1] [] dX1_node_12 rfl (ok_X1_refuse hG hw) q2434 q2436 qs70 q159 q2437 hd_X1_refuse ⟨rfl, rfl, rfl⟩ (fun r48 T47 hw => ?_)
    exact t_iret C dX1_node_15 ⟨_, rfl, hw⟩
def wp_X1_ordered (p0 : Int32) (T : TS) (Q : Int32 → TS → Prop) : Prop :=
  wp_X1_isFrom p0 0 1 T fun r2 T1 =>
  ((r2 = 0 →
  wp_X1_refuse 1 T1 fun r21 T20 =>
  Q r21 T20) ∧ (¬ r2 = 0 →
  (((T1.s 209) = 0 →
  wp_X1_refuse 2 T1 fun r19 T18 =>
  Q r19 T18) ∧ (¬ (T1.s 209) = 0 →
  wp_X1_block  T1 fun r6 T5 =>
  ((p0 = 0 →
  ∀ m13 : Int32, m13 = (if r6 = (-1) then 1 else 0) →
  wp_X1_gives m13 T5 fun r16 T15 =>
  Q r16 T15) ∧ (¬ p0 = 0 →
  ((r6 = (-1) →
  wp_X1_refuse 7 T5 fun r12 T11 =>
  Q r12 T11) ∧ (¬ r6 = (-1) →
  wp_X1_gives r6 T5 fun r10 T9 =>
  Q r10 T9))))))))
theorem hd_X1_ordered : yX1_ordered.cls = RX1 ∧ yX1_ordered.cls ≠ "java/lang/invoke/MethodHandle" ∧ yX1_ordered.cls ≠ "java/lang/invoke/VarHandle" ∧ (parseMethodDescriptor yX1_ordered.desc).map (fun d => d.parameters.length) = some 1 := by decide +kernel
theorem ok_X1_ordered {l : Launch} {D : va_G} {s0 : S0} (hG : G0 D s0) {o : Nat} {p0 : Int32} {T : TS} {Q : Int32 → TS → Prop} (hw : wp_X1_ordered p0 T Q) : OKt l D s0 o yX1_ordered cX1_ordered 3 (some .int) 9 202 [vA (some o), vI p0] T (TI Q) := by
  refine t_met hG rfl rfl (L0 := [(0, vA (some o)), (1, vI p0)]) rfl rfl ?_
  intro h K C
  unfold wp_X1_ordered at hw
  refine t_b C (pc' := 3) (L' := [(0, vA (some o)), (1, vI p0)]) (st' := [vI 1, vI 0, vI p0]) [(.iload_n 1, 1), (.iconst 0, 1), (.iconst 1, 1)] ⟨dX1_ordered_0, dX1_ordered_1, dX1_ordered_2, rfl⟩ rfl ?_
  refine t_callSI C 6 [vI p0, vI 0, vI 1] [] dX1_ordered_3 rfl (ok_X1_isFrom hG hw) q2431 q2432 q159 q2433 hd_X1_isFrom ⟨rfl, rfl, rfl⟩ (fun r2 T1 hw => ?_)
  refine t_if_ne C 15 9 dX1_ordered_6 rfl rfl (fun hc3 => ?_) (fun hc3 => ?_)
  · replace hw := hw.2 hc3
    refine t_b C (pc' := 16) (L' := [(0, vA (some o)), (1, vI p0)]) (st' := [vA (some o)]) [(.aload_n 0, 1)] ⟨dX1_ordered_15, rfl⟩ rfl ?_
    refine t_gI C 209 19 dX1_ordered_16 rfl rfl rfl q2197 (fun _ _ _ => rfl) ?_
    refine t_if_ne C 28 22 dX1_ordered_19 rfl rfl (fun hc4 => ?_) (fun hc4 => ?_)
    · replace hw := hw.2 hc4
      refine t_b C (pc' := 29) (L' := [(0, vA (some o)), (1, vI p0)]) (st' := [vA (some o)]) [(.aload_n 0, 1)] ⟨dX1_ordered_28, rfl⟩ rfl ?_
      refine t_callVI C 32 [] [] dX1_ordered_29 rfl (ok_X1_block hG hw) q2694 q2696 qs117 q159 q2697 hd_X1_block ⟨rfl, rfl, rfl⟩ (fun r6 T5 hw => ?_)
      refine t_b C (pc' := 34) (L' := [(2, vI r6), (0, vA (some o)), (1, vI p0)]) (st' := [vI p0]) [(.istore_n 2, 1), (.iload_n 1, 1)] ⟨dX1_ordered_32, dX1_ordered_33, rfl⟩ rfl ?_
      refine t_if_ne C 52 37 dX1_ordered_34 rfl rfl (fun hc7 => ?_) (fun hc7 => ?_)
      · replace hw := hw.2 hc7
        refine t_b C (pc' := 54) (L' := [(2, vI r6), (0, vA (some o)), (1, vI p0)]) (st' := [vI (-1), vI r6]) [(.iload_n 2, 1), (.iconst (-1), 1)] ⟨dX1_ordered_52, dX1_ordered_53, rfl⟩ rfl ?_
        refine t_icmp_ne C 66 57 dX1_ordered_54 rfl rfl (fun hc8 => ?_) (fun hc8 => ?_)
        · replace hw := hw.2 hc8
          refine t_b C (pc' := 68) (L' := [(2, vI r6), (0, vA (some o)), (1, vI p0)]) (st' := [vI r6, vA (some o)]) [(.aload_n 0, 1), (.iload_n 2, 1)] ⟨dX1_ordered_66, dX1_ordered_67, rfl⟩ rfl ?_
          refine t_callVI C 71 [vI r6] [] dX1_ordered_68 rfl (ok_X1_gives hG hw) q2589 q2591 qs100 q159 q2592 hd_X1_gives ⟨rfl, rfl, rfl⟩ (fun r10 T9 hw => ?_)
          exact t_iret C dX1_ordered_71 ⟨_, rfl, hw⟩
        · replace hw := hw.1 hc8
          refine t_b C (pc' := 60) (L' := [(2, vI r6), (0, vA (some o)), (1, vI p0)]) (st' := [vI 7, vA (some o)]) [(.aload_n 0, 1), (.bipush 7, 2)] ⟨dX1_ordered_57, dX1_ordered_58, rfl⟩ rfl ?_
          refine t_callVI C 63 [vI 7] [] dX1_ordered_60 rfl (ok_X1_refuse hG hw) q2434 q2436 qs70 q159 q2437 hd_X1_refuse ⟨rfl, rfl, rfl⟩ (fun r12 T11 hw => ?_)
          refine t_goto C 71 dX1_ordered_63 rfl ?_
          exact t_iret C dX1_ordered_71 ⟨_, rfl, hw⟩
      · replace hw := hw.1 hc7
        refine t_b C (pc' := 40) (L' := [(2, vI r6), (0, vA (some o)), (1, vI p0)]) (st' := [vI (-1), vI r6, vA (some o)]) [(.aload_n 0, 1), (.iload_n 2, 1), (.iconst (-1), 1)] ⟨dX1_ordered_37, dX1_ordered_38, dX1_ordered_39, rfl⟩ rfl ?_
        have kj14 : ∀ (m13 : Int32), m13 = (if r6 = (-1) then 1 else 0) → K 48 [] [vI m13, vA (some o)] T5 := by
          intro m13 em13
          replace hw := hw m13 em13
          refine t_callVI C 51 [vI m13] [] dX1_ordered_48 rfl (ok_X1_gives hG hw) q2589 q2591 qs100 q159 q2592 hd_X1_gives ⟨rfl, rfl, rfl⟩ (fun r16 T15 hw => ?_)
          exact t_iret C dX1_ordered_51 ⟨_, rfl, hw⟩
        refine t_icmp_ne C 47 43 dX1_ordered_40 rfl rfl (fun hc17 => ?_) (fun hc17 => ?_)
        · refine t_b C (pc' := 48) (L' := [(2, vI r6), (0, vA (some o)), (1, vI p0)]) (st' := [vI 0, vA (some o)]) [(.iconst 0, 1)] ⟨dX1_ordered_47, rfl⟩ rfl ?_
          refine t_sub C (L' := []) [] rfl ?_
          exact kj14 _ ((if_neg hc17).symm)
        · refine t_b C (pc' := 44) (L' := [(2, vI r6), (0, vA (some o)), (1, vI p0)]) (st' := [vI 1, vA (some o)]) [(.iconst 1, 1)] ⟨dX1_ordered_43, rfl⟩ rfl ?_
          refine t_goto C 48 dX1_ordered_44 rfl ?_
          refine t_sub C (L' := []) [] rfl ?_
          exact kj14 _ ((if_pos hc17).symm)
    · replace hw := hw.1 hc4
      refine t_b C (pc' := 24) (L' := [(0, vA (some o)), (1, vI p0)]) (st' := [vI 2, vA (some o)]) [(.aload_n 0, 1), (.iconst 2, 1)] ⟨dX1_ordered_22, dX1_ordered_23, rfl⟩ rfl ?_
      refine t_callVI C 27 [vI 2] [] dX1_ordered_24 rfl (ok_X1_refuse hG hw) q2434 q2436 qs70 q159 q2437 hd_X1_refuse ⟨rfl, rfl, rfl⟩ (fun r19 T18 hw => ?_)
      exact t_iret C dX1_ordered_27 ⟨_, rfl, hw⟩
  · replace hw := hw.1 hc3
    refine t_b C (pc' := 11) (L' := [(0, vA (some o)), (1, vI p0)]) (st' := [vI 1, vA (some o)]) [(.aload_n 0, 1), (.iconst 1, 1)] ⟨dX1_ordered_9, dX1_ordered_10, rfl⟩ rfl ?_
    refine t_callVI C 14 [vI 1] [] dX1_ordered_11 rfl (ok_X1_refuse hG hw) q2434 q2436 qs70 q159 q2437 hd_X1_refuse ⟨rfl, rfl, rfl⟩ (fun r21 T20 hw => ?_)
    exact t_iret C dX1_ordered_14 ⟨_, rfl, hw⟩
def wp_X1_plan (p0 : Int32) (p1 : Int32) (T : TS) (Q : Int32 → TS → Prop) : Prop :=
  (((-1) ≤ p1 →
  wp_X1_isProduction p0 T fun r3 T2 =>
  ((r3 = 0 →
  wp_X1_refuse 4 T2 fun r21 T20 =>
  Q r21 T20) ∧ (¬ r3 = 0 →
  wp_X1_block  T2 fun r6 T5 =>
  ((r6 = (-1) →
  wp_X1_laysPlan p0 T5 fun T8 =>
  ((p1 = (-1) →
  wp_X1_gives (T8.s 233) T8 fun r17 T16 =>
  Q r17 T16) ∧ (¬ p1 = (-1) →
  (((T8.s 233) ≤ p1 →
  wp_X1_refuse 7 T8 fun r13 T12 =>
  Q r13 T12) ∧ (¬ (T8.s 233) ≤ p1 →
  tix 13 40 p1 ∧
  wp_X1_gives (T8.a 13 (ni p1)) T8 fun r15 T14 =>
  Q r15 T14))))) ∧ (¬ r6 = (-1) →
  wp_X1_refuse 5 T5 fun r19 T18 =>
  Q r19 T18))))) ∧ (¬ (-1) ≤ p1 →
  wp_X1_refuse 1 T fun r23 T22 =>
  Q r23 T22))
theorem hd_X1_plan : yX1_plan.cls = RX1 ∧ yX1_plan.cls ≠ "java/lang/invoke/MethodHandle" ∧ yX1_plan.cls ≠ "java/lang/invoke/VarHandle" ∧ (parseMethodDescriptor yX1_plan.desc).map (fun d => d.parameters.length) = some 2 := by decide +kernel
theorem ok_X1_plan {l : Launch} {D : va_G} {s0 : S0} (hG : G0 D s0) {o : Nat} {p0 : Int32} {p1 : Int32} {T : TS} {Q : Int32 → TS → Prop} (hw : wp_X1_plan p0 p1 T Q) : OKt l D s0 o yX1_plan cX1_plan 3 (some .int) 9 202 [vA (some o), vI p0, vI p1] T (TI Q) := by
  refine t_met hG rfl rfl (L0 := [(0, vA (some o)), (1, vI p0), (2, vI p1)]) rfl rfl ?_
  intro h K C
  unfold wp_X1_plan at hw
  refine t_b C (pc' := 2) (L' := [(0, vA (some o)), (1, vI p0), (2, vI p1)]) (st' := [vI (-1), vI p1]) [(.iload_n 2, 1), (.iconst (-1), 1)] ⟨dX1_plan_0, dX1_plan_1, rfl⟩ rfl ?_
  refine t_icmp_ge C 11 5 dX1_plan_2 rfl rfl (fun hc1 => ?_) (fun hc1 => ?_)
  · replace hw := hw.1 hc1
    refine t_b C (pc' := 13) (L' := [(0, vA (some o)), (1, vI p0), (2, vI p1)]) (st' := [vI p0, vA (some o)]) [(.aload_n 0, 1), (.iload_n 1, 1)] ⟨dX1_plan_11, dX1_plan_12, rfl⟩ rfl ?_
    refine t_callVI C 16 [vI p0] [] dX1_plan_13 rfl (ok_X1_isProduction hG hw) q2633 q2635 qs107 q159 q2636 hd_X1_isProduction ⟨rfl, rfl, rfl⟩ (fun r3 T2 hw => ?_)
    refine t_if_ne C 25 19 dX1_plan_16 rfl rfl (fun hc4 => ?_) (fun hc4 => ?_)
    · replace hw := hw.2 hc4
      refine t_b C (pc' := 26) (L' := [(0, vA (some o)), (1, vI p0), (2, vI p1)]) (st' := [vA (some o)]) [(.aload_n 0, 1)] ⟨dX1_plan_25, rfl⟩ rfl ?_
      refine t_callVI C 29 [] [] dX1_plan_26 rfl (ok_X1_block hG hw) q2694 q2696 qs117 q159 q2697 hd_X1_block ⟨rfl, rfl, rfl⟩ (fun r6 T5 hw => ?_)
      refine t_b C (pc' := 30) (L' := [(0, vA (some o)), (1, vI p0), (2, vI p1)]) (st' := [vI (-1), vI r6]) [(.iconst (-1), 1)] ⟨dX1_plan_29, rfl⟩ rfl ?_
      refine t_icmp_eq C 39 33 dX1_plan_30 rfl rfl (fun hc7 => ?_) (fun hc7 => ?_)
      · replace hw := hw.1 hc7
        refine t_b C (pc' := 41) (L' := [(0, vA (some o)), (1, vI p0), (2, vI p1)]) (st' := [vI p0, vA (some o)]) [(.aload_n 0, 1), (.iload_n 1, 1)] ⟨dX1_plan_39, dX1_plan_40, rfl⟩ rfl ?_
        refine t_callVV C 44 [vI p0] [] dX1_plan_41 rfl (ok_X1_laysPlan hG hw) q2702 q2704 qs118 q159 q2705 hd_X1_laysPlan ⟨rfl, rfl, rfl⟩ (fun T8 hw => ?_)
        refine t_b C (pc' := 46) (L' := [(0, vA (some o)), (1, vI p0), (2, vI p1)]) (st' := [vI (-1), vI p1]) [(.iload_n 2, 1), (.iconst (-1), 1)] ⟨dX1_plan_44, dX1_plan_45, rfl⟩ rfl ?_
        refine t_icmp_ne C 58 49 dX1_plan_46 rfl rfl (fun hc10 => ?_) (fun hc10 => ?_)
        · replace hw := hw.2 hc10
          refine t_b C (pc' := 60) (L' := [(0, vA (some o)), (1, vI p0), (2, vI p1)]) (st' := [vA (some o), vI p1]) [(.iload_n 2, 1), (.aload_n 0, 1)] ⟨dX1_plan_58, dX1_plan_59, rfl⟩ rfl ?_
          refine t_gI C 233 63 dX1_plan_60 rfl rfl rfl q2221 (fun _ _ _ => rfl) ?_
          refine t_icmp_ge C 79 66 dX1_plan_63 rfl rfl (fun hc11 => ?_) (fun hc11 => ?_)
          · replace hw := hw.1 hc11
            refine t_b C (pc' := 82) (L' := [(0, vA (some o)), (1, vI p0), (2, vI p1)]) (st' := [vI 7, vA (some o)]) [(.aload_n 0, 1), (.bipush 7, 2)] ⟨dX1_plan_79, dX1_plan_80, rfl⟩ rfl ?_
            refine t_callVI C 85 [vI 7] [] dX1_plan_82 rfl (ok_X1_refuse hG hw) q2434 q2436 qs70 q159 q2437 hd_X1_refuse ⟨rfl, rfl, rfl⟩ (fun r13 T12 hw => ?_)
            exact t_iret C dX1_plan_85 ⟨_, rfl, hw⟩
          · replace hw := hw.2 hc11
            refine t_b C (pc' := 68) (L' := [(0, vA (some o)), (1, vI p0), (2, vI p1)]) (st' := [vA (some o), vA (some o)]) [(.aload_n 0, 1), (.aload_n 0, 1)] ⟨dX1_plan_66, dX1_plan_67, rfl⟩ rfl ?_
            refine t_gA C 232 13 71 dX1_plan_68 rfl rfl rfl rfl rfl q2220 (fun _ _ _ => rfl) ?_
            refine t_b C (pc' := 72) (L' := [(0, vA (some o)), (1, vI p0), (2, vI p1)]) (st' := [vI p1, vA (some (o + 1 + 13)), vA (some o)]) [(.iload_n 2, 1)] ⟨dX1_plan_71, rfl⟩ rfl ?_
            refine t_iald C 73 dX1_plan_72 rfl hw.1 ?_
            replace hw := hw.2
            refine t_callVI C 76 [vI (T8.a 13 (ni p1))] [] dX1_plan_73 rfl (ok_X1_gives hG hw) q2589 q2591 qs100 q159 q2592 hd_X1_gives ⟨rfl, rfl, rfl⟩ (fun r15 T14 hw => ?_)
            refine t_goto C 85 dX1_plan_76 rfl ?_
            exact t_iret C dX1_plan_85 ⟨_, rfl, hw⟩
        · replace hw := hw.1 hc10
          refine t_b C (pc' := 51) (L' := [(0, vA (some o)), (1, vI p0), (2, vI p1)]) (st' := [vA (some o), vA (some o)]) [(.aload_n 0, 1), (.aload_n 0, 1)] ⟨dX1_plan_49, dX1_plan_50, rfl⟩ rfl ?_
          refine t_gI C 233 54 dX1_plan_51 rfl rfl rfl q2221 (fun _ _ _ => rfl) ?_
          refine t_callVI C 57 [vI (T8.s 233)] [] dX1_plan_54 rfl (ok_X1_gives hG hw) q2589 q2591 qs100 q159 q2592 hd_X1_gives ⟨rfl, rfl, rfl⟩ (fun r17 T16 hw => ?_)
          exact t_iret C dX1_plan_57 ⟨_, rfl, hw⟩
      · replace hw := hw.2 hc7
        refine t_b C (pc' := 35) (L' := [(0, vA (some o)), (1, vI p0), (2, vI p1)]) (st' := [vI 5, vA (some o)]) [(.aload_n 0, 1), (.iconst 5, 1)] ⟨dX1_plan_33, dX1_plan_34, rfl⟩ rfl ?_
        refine t_callVI C 38 [vI 5] [] dX1_plan_35 rfl (ok_X1_refuse hG hw) q2434 q2436 qs70 q159 q2437 hd_X1_refuse ⟨rfl, rfl, rfl⟩ (fun r19 T18 hw => ?_)
        exact t_iret C dX1_plan_38 ⟨_, rfl, hw⟩
    · replace hw := hw.1 hc4
      refine t_b C (pc' := 21) (L' := [(0, vA (some o)), (1, vI p0), (2, vI p1)]) (st' := [vI 4, vA (some o)]) [(.aload_n 0, 1), (.iconst 4, 1)] ⟨dX1_plan_19, dX1_plan_20, rfl⟩ rfl ?_
      refine t_callVI C 24 [vI 4] [] dX1_plan_21 rfl (ok_X1_refuse hG hw) q2434 q2436 qs70 q159 q2437 hd_X1_refuse ⟨rfl, rfl, rfl⟩ (fun r21 T20 hw => ?_)
      exact t_iret C dX1_plan_24 ⟨_, rfl, hw⟩
  · replace hw := hw.2 hc1
    refine t_b C (pc' := 7) (L' := [(0, vA (some o)), (1, vI p0), (2, vI p1)]) (st' := [vI 1, vA (some o)]) [(.aload_n 0, 1), (.iconst 1, 1)] ⟨dX1_plan_5, dX1_plan_6, rfl⟩ rfl ?_
    refine t_callVI C 10 [vI 1] [] dX1_plan_7 rfl (ok_X1_refuse hG hw) q2434 q2436 qs70 q159 q2437 hd_X1_refuse ⟨rfl, rfl, rfl⟩ (fun r23 T22 hw => ?_)
    exact t_iret C dX1_plan_10 ⟨_, rfl, hw⟩
def wp_X1_production (p0 : Int32) (p1 : Int32) (T : TS) (Q : Int32 → TS → Prop) : Prop :=
  wp_X1_isFrom p1 0 5 T fun r2 T1 =>
  ((r2 = 0 →
  wp_X1_refuse 1 T1 fun r27 T26 =>
  Q r27 T26) ∧ (¬ r2 = 0 →
  wp_X1_isProduction p0 T1 fun r5 T4 =>
  ((r5 = 0 →
  wp_X1_refuse 4 T4 fun r25 T24 =>
  Q r25 T24) ∧ (¬ r5 = 0 →
  ((p1 = 0 →
  tix 1 40 (20 + p0) ∧
  wp_X1_gives (T4.a 1 (ni (20 + p0))) T4 fun r23 T22 =>
  Q r23 T22) ∧ (¬ p1 = 0 →
  ((p1 = 1 →
  tix 1 40 (32 + p0) ∧
  wp_X1_gives (T4.a 1 (ni (32 + p0))) T4 fun r21 T20 =>
  Q r21 T20) ∧ (¬ p1 = 1 →
  ((5 ≤ p1 →
  tlp (σ := Int32 × Int32) (fun s10 T11 k10 =>
  ((32 ≤ s10.2 →
  wp_X1_gives (s10.1) T11 fun r14 T13 =>
  Q r14 T13) ∧ (¬ 32 ≤ s10.2 →
  tix 1 40 ((1232 + (32 * p0)) + s10.2) ∧
  k10 ((s10.1 + (T11.a 1 (ni ((1232 + (32 * p0)) + s10.2)))), (s10.2 + 1)) T11))) (0, 0) T4) ∧ (¬ 5 ≤ p1 →
  tix 1 40 (32 + p0) ∧
  (((T4.a 1 (ni (32 + p0))) ≤ (p1 - 2) →
  wp_X1_refuse 7 T4 fun r17 T16 =>
  Q r17 T16) ∧ (¬ (T4.a 1 (ni (32 + p0))) ≤ (p1 - 2) →
  tix 1 40 (((44 + (3 * p0)) + p1) - 2) ∧
  wp_X1_gives (T4.a 1 (ni (((44 + (3 * p0)) + p1) - 2))) T4 fun r19 T18 =>
  Q r19 T18))))))))))))
theorem hd_X1_production : yX1_production.cls = RX1 ∧ yX1_production.cls ≠ "java/lang/invoke/MethodHandle" ∧ yX1_production.cls ≠ "java/lang/invoke/VarHandle" ∧ (parseMethodDescriptor yX1_production.desc).map (fun d => d.parameters.length) = some 2 := by decide +kernel
theorem ok_X1_production {l : Launch} {D : va_G} {s0 : S0} (hG : G0 D s0) {o : Nat} {p0 : Int32} {p1 : Int32} {T : TS} {Q : Int32 → TS → Prop} (hw : wp_X1_production p0 p1 T Q) : OKt l D s0 o yX1_production cX1_production 5 (some .int) 2 43 [vA (some o), vI p0, vI p1] T (TI Q) := by
  refine t_met hG rfl rfl (L0 := [(0, vA (some o)), (1, vI p0), (2, vI p1)]) rfl rfl ?_
  intro h K C
  unfold wp_X1_production at hw
  refine t_b C (pc' := 3) (L' := [(0, vA (some o)), (1, vI p0), (2, vI p1)]) (st' := [vI 5, vI 0, vI p1]) [(.iload_n 2, 1), (.iconst 0, 1), (.iconst 5, 1)] ⟨dX1_production_0, dX1_production_1, dX1_production_2, rfl⟩ rfl ?_
  refine t_callSI C 6 [vI p1, vI 0, vI 5] [] dX1_production_3 rfl (ok_X1_isFrom hG hw) q2431 q2432 q159 q2433 hd_X1_isFrom ⟨rfl, rfl, rfl⟩ (fun r2 T1 hw => ?_)
  refine t_if_ne C 15 9 dX1_production_6 rfl rfl (fun hc3 => ?_) (fun hc3 => ?_)
  · replace hw := hw.2 hc3
    refine t_b C (pc' := 17) (L' := [(0, vA (some o)), (1, vI p0), (2, vI p1)]) (st' := [vI p0, vA (some o)]) [(.aload_n 0, 1), (.iload_n 1, 1)] ⟨dX1_production_15, dX1_production_16, rfl⟩ rfl ?_
    refine t_callVI C 20 [vI p0] [] dX1_production_17 rfl (ok_X1_isProduction hG hw) q2633 q2635 qs107 q159 q2636 hd_X1_isProduction ⟨rfl, rfl, rfl⟩ (fun r5 T4 hw => ?_)
    refine t_if_ne C 29 23 dX1_production_20 rfl rfl (fun hc6 => ?_) (fun hc6 => ?_)
    · replace hw := hw.2 hc6
      refine t_b C (pc' := 30) (L' := [(0, vA (some o)), (1, vI p0), (2, vI p1)]) (st' := [vI p1]) [(.iload_n 2, 1)] ⟨dX1_production_29, rfl⟩ rfl ?_
      refine t_if_ne C 47 33 dX1_production_30 rfl rfl (fun hc7 => ?_) (fun hc7 => ?_)
      · replace hw := hw.2 hc7
        refine t_b C (pc' := 49) (L' := [(0, vA (some o)), (1, vI p0), (2, vI p1)]) (st' := [vI 1, vI p1]) [(.iload_n 2, 1), (.iconst 1, 1)] ⟨dX1_production_47, dX1_production_48, rfl⟩ rfl ?_
        refine t_icmp_ne C 66 52 dX1_production_49 rfl rfl (fun hc8 => ?_) (fun hc8 => ?_)
        · replace hw := hw.2 hc8
          refine t_b C (pc' := 68) (L' := [(0, vA (some o)), (1, vI p0), (2, vI p1)]) (st' := [vI 5, vI p1]) [(.iload_n 2, 1), (.iconst 5, 1)] ⟨dX1_production_66, dX1_production_67, rfl⟩ rfl ?_
          refine t_icmp_ge C 115 71 dX1_production_68 rfl rfl (fun hc9 => ?_) (fun hc9 => ?_)
          · replace hw := hw.1 hc9
            refine t_b C (pc' := 120) (L' := [(4, vI 0), (3, vI 0), (0, vA (some o)), (1, vI p0), (2, vI p1)]) (st' := []) [(.iconst 0, 1), (.istore_n 3, 1), (.iconst 0, 1), (.istore 4, 2)] ⟨dX1_production_115, dX1_production_116, dX1_production_117, dX1_production_118, rfl⟩ rfl ?_
            obtain ⟨I10, ⟨n10, hI10⟩, hB10⟩ := tlp.out hw
            refine t_sub C (L' := [(0, vA (some o)), (1, vI p0), (3, vI 0), (4, vI 0)]) [2, 3, 1, 0] rfl ?_
            have key10 : ∀ (n : Nat) (s10 : Int32 × Int32) (T11 : TS), I10 n s10 T11 → K 120 [(0, vA (some o)), (1, vI p0), (3, vI (s10.1)), (4, vI (s10.2))] [] T11 := by
              intro n
              induction n using Nat.strongRecOn with
              | ind n ih10 =>
                intro s10 T11 hI
                replace hw := hB10 n s10 T11 hI
                refine t_b C (pc' := 124) (L' := [(0, vA (some o)), (1, vI p0), (3, vI (s10.1)), (4, vI (s10.2))]) (st' := [vI 32, vI (s10.2)]) [(.iload 4, 2), (.bipush 32, 2)] ⟨dX1_production_120, dX1_production_122, rfl⟩ rfl ?_
                refine t_icmp_ge C 152 127 dX1_production_124 rfl rfl (fun hc12 => ?_) (fun hc12 => ?_)
                · replace hw := hw.1 hc12
                  refine t_b C (pc' := 154) (L' := [(0, vA (some o)), (1, vI p0), (3, vI (s10.1)), (4, vI (s10.2))]) (st' := [vI (s10.1), vA (some o)]) [(.aload_n 0, 1), (.iload_n 3, 1)] ⟨dX1_production_152, dX1_production_153, rfl⟩ rfl ?_
                  refine t_callVI C 157 [vI (s10.1)] [] dX1_production_154 rfl (ok_X1_gives hG hw) q2589 q2591 qs100 q159 q2592 hd_X1_gives ⟨rfl, rfl, rfl⟩ (fun r14 T13 hw => ?_)
                  exact t_iret C dX1_production_157 ⟨_, rfl, hw⟩
                · replace hw := hw.2 hc12
                  refine t_b C (pc' := 129) (L' := [(0, vA (some o)), (1, vI p0), (3, vI (s10.1)), (4, vI (s10.2))]) (st' := [vA (some o), vI (s10.1)]) [(.iload_n 3, 1), (.aload_n 0, 1)] ⟨dX1_production_127, dX1_production_128, rfl⟩ rfl ?_
                  refine t_gA C 201 1 132 dX1_production_129 rfl rfl rfl rfl rfl q2189 (fun _ _ _ => rfl) ?_
                  refine t_b C (pc' := 143) (L' := [(0, vA (some o)), (1, vI p0), (3, vI (s10.1)), (4, vI (s10.2))]) (st' := [vI ((1232 + (32 * p0)) + s10.2), vA (some (o + 1 + 1)), vI (s10.1)]) [(.sipush 1232, 3), (.bipush 32, 2), (.iload_n 1, 1), (.imul, 1), (.iadd, 1), (.iload 4, 2), (.iadd, 1)] ⟨dX1_production_132, dX1_production_135, dX1_production_137, dX1_production_138, dX1_production_139, dX1_production_140, dX1_production_142, rfl⟩ rfl ?_
                  refine t_iald C 144 dX1_production_143 rfl hw.1 ?_
                  replace hw := hw.2
                  refine t_b C (pc' := 149) (L' := [(4, vI (s10.2 + 1)), (3, vI (s10.1 + (T11.a 1 (ni ((1232 + (32 * p0)) + s10.2))))), (0, vA (some o)), (1, vI p0)]) (st' := []) [(.iadd, 1), (.istore_n 3, 1), (.iinc 4 1, 3)] ⟨dX1_production_144, dX1_production_145, dX1_production_146, rfl⟩ rfl ?_
                  refine t_goto C 120 dX1_production_149 rfl ?_
                  refine t_sub C (L' := [(0, vA (some o)), (1, vI p0), (3, vI (s10.1 + (T11.a 1 (ni ((1232 + (32 * p0)) + s10.2))))), (4, vI (s10.2 + 1))]) [2, 3, 1, 0] rfl ?_
                  obtain ⟨m9, hm9, hw⟩ := hw
                  exact ih10 m9 hm9 ((s10.1 + (T11.a 1 (ni ((1232 + (32 * p0)) + s10.2)))), (s10.2 + 1)) T11 hw
            exact key10 n10 (0, 0) T4 hI10
          · replace hw := hw.2 hc9
            refine t_b C (pc' := 75) (L' := [(0, vA (some o)), (1, vI p0), (2, vI p1)]) (st' := [vA (some o), vI (p1 - 2)]) [(.iload_n 2, 1), (.iconst 2, 1), (.isub, 1), (.aload_n 0, 1)] ⟨dX1_production_71, dX1_production_72, dX1_production_73, dX1_production_74, rfl⟩ rfl ?_
            refine t_gA C 201 1 78 dX1_production_75 rfl rfl rfl rfl rfl q2189 (fun _ _ _ => rfl) ?_
            refine t_b C (pc' := 82) (L' := [(0, vA (some o)), (1, vI p0), (2, vI p1)]) (st' := [vI (32 + p0), vA (some (o + 1 + 1)), vI (p1 - 2)]) [(.bipush 32, 2), (.iload_n 1, 1), (.iadd, 1)] ⟨dX1_production_78, dX1_production_80, dX1_production_81, rfl⟩ rfl ?_
            refine t_iald C 83 dX1_production_82 rfl hw.1 ?_
            replace hw := hw.2
            refine t_icmp_ge C 108 86 dX1_production_83 rfl rfl (fun hc15 => ?_) (fun hc15 => ?_)
            · replace hw := hw.1 hc15
              refine t_b C (pc' := 111) (L' := [(0, vA (some o)), (1, vI p0), (2, vI p1)]) (st' := [vI 7, vA (some o)]) [(.aload_n 0, 1), (.bipush 7, 2)] ⟨dX1_production_108, dX1_production_109, rfl⟩ rfl ?_
              refine t_callVI C 114 [vI 7] [] dX1_production_111 rfl (ok_X1_refuse hG hw) q2434 q2436 qs70 q159 q2437 hd_X1_refuse ⟨rfl, rfl, rfl⟩ (fun r17 T16 hw => ?_)
              exact t_iret C dX1_production_114 ⟨_, rfl, hw⟩
            · replace hw := hw.2 hc15
              refine t_b C (pc' := 88) (L' := [(0, vA (some o)), (1, vI p0), (2, vI p1)]) (st' := [vA (some o), vA (some o)]) [(.aload_n 0, 1), (.aload_n 0, 1)] ⟨dX1_production_86, dX1_production_87, rfl⟩ rfl ?_
              refine t_gA C 201 1 91 dX1_production_88 rfl rfl rfl rfl rfl q2189 (fun _ _ _ => rfl) ?_
              refine t_b C (pc' := 101) (L' := [(0, vA (some o)), (1, vI p0), (2, vI p1)]) (st' := [vI (((44 + (3 * p0)) + p1) - 2), vA (some (o + 1 + 1)), vA (some o)]) [(.bipush 44, 2), (.iconst 3, 1), (.iload_n 1, 1), (.imul, 1), (.iadd, 1), (.iload_n 2, 1), (.iadd, 1), (.iconst 2, 1), (.isub, 1)] ⟨dX1_production_91, dX1_production_93, dX1_production_94, dX1_production_95, dX1_production_96, dX1_production_97, dX1_production_98, dX1_production_99, dX1_production_100, rfl⟩ rfl ?_
              refine t_iald C 102 dX1_production_101 rfl hw.1 ?_
              replace hw := hw.2
              refine t_callVI C 105 [vI (T4.a 1 (ni (((44 + (3 * p0)) + p1) - 2)))] [] dX1_production_102 rfl (ok_X1_gives hG hw) q2589 q2591 qs100 q159 q2592 hd_X1_gives ⟨rfl, rfl, rfl⟩ (fun r19 T18 hw => ?_)
              refine t_goto C 114 dX1_production_105 rfl ?_
              exact t_iret C dX1_production_114 ⟨_, rfl, hw⟩
        · replace hw := hw.1 hc8
          refine t_b C (pc' := 54) (L' := [(0, vA (some o)), (1, vI p0), (2, vI p1)]) (st' := [vA (some o), vA (some o)]) [(.aload_n 0, 1), (.aload_n 0, 1)] ⟨dX1_production_52, dX1_production_53, rfl⟩ rfl ?_
          refine t_gA C 201 1 57 dX1_production_54 rfl rfl rfl rfl rfl q2189 (fun _ _ _ => rfl) ?_
          refine t_b C (pc' := 61) (L' := [(0, vA (some o)), (1, vI p0), (2, vI p1)]) (st' := [vI (32 + p0), vA (some (o + 1 + 1)), vA (some o)]) [(.bipush 32, 2), (.iload_n 1, 1), (.iadd, 1)] ⟨dX1_production_57, dX1_production_59, dX1_production_60, rfl⟩ rfl ?_
          refine t_iald C 62 dX1_production_61 rfl hw.1 ?_
          replace hw := hw.2
          refine t_callVI C 65 [vI (T4.a 1 (ni (32 + p0)))] [] dX1_production_62 rfl (ok_X1_gives hG hw) q2589 q2591 qs100 q159 q2592 hd_X1_gives ⟨rfl, rfl, rfl⟩ (fun r21 T20 hw => ?_)
          exact t_iret C dX1_production_65 ⟨_, rfl, hw⟩
      · replace hw := hw.1 hc7
        refine t_b C (pc' := 35) (L' := [(0, vA (some o)), (1, vI p0), (2, vI p1)]) (st' := [vA (some o), vA (some o)]) [(.aload_n 0, 1), (.aload_n 0, 1)] ⟨dX1_production_33, dX1_production_34, rfl⟩ rfl ?_
        refine t_gA C 201 1 38 dX1_production_35 rfl rfl rfl rfl rfl q2189 (fun _ _ _ => rfl) ?_
        refine t_b C (pc' := 42) (L' := [(0, vA (some o)), (1, vI p0), (2, vI p1)]) (st' := [vI (20 + p0), vA (some (o + 1 + 1)), vA (some o)]) [(.bipush 20, 2), (.iload_n 1, 1), (.iadd, 1)] ⟨dX1_production_38, dX1_production_40, dX1_production_41, rfl⟩ rfl ?_
        refine t_iald C 43 dX1_production_42 rfl hw.1 ?_
        replace hw := hw.2
        refine t_callVI C 46 [vI (T4.a 1 (ni (20 + p0)))] [] dX1_production_43 rfl (ok_X1_gives hG hw) q2589 q2591 qs100 q159 q2592 hd_X1_gives ⟨rfl, rfl, rfl⟩ (fun r23 T22 hw => ?_)
        exact t_iret C dX1_production_46 ⟨_, rfl, hw⟩
    · replace hw := hw.1 hc6
      refine t_b C (pc' := 25) (L' := [(0, vA (some o)), (1, vI p0), (2, vI p1)]) (st' := [vI 4, vA (some o)]) [(.aload_n 0, 1), (.iconst 4, 1)] ⟨dX1_production_23, dX1_production_24, rfl⟩ rfl ?_
      refine t_callVI C 28 [vI 4] [] dX1_production_25 rfl (ok_X1_refuse hG hw) q2434 q2436 qs70 q159 q2437 hd_X1_refuse ⟨rfl, rfl, rfl⟩ (fun r25 T24 hw => ?_)
      exact t_iret C dX1_production_28 ⟨_, rfl, hw⟩
  · replace hw := hw.1 hc3
    refine t_b C (pc' := 11) (L' := [(0, vA (some o)), (1, vI p0), (2, vI p1)]) (st' := [vI 1, vA (some o)]) [(.aload_n 0, 1), (.iconst 1, 1)] ⟨dX1_production_9, dX1_production_10, rfl⟩ rfl ?_
    refine t_callVI C 14 [vI 1] [] dX1_production_11 rfl (ok_X1_refuse hG hw) q2434 q2436 qs70 q159 q2437 hd_X1_refuse ⟨rfl, rfl, rfl⟩ (fun r27 T26 hw => ?_)
    exact t_iret C dX1_production_14 ⟨_, rfl, hw⟩
def wp_X1_put (p0 : Int32) (p1 : Int32) (T : TS) (Q : Int32 → TS → Prop) : Prop :=
  wp_X1_isFrom p1 0 9999 T fun r2 T1 =>
  ((r2 = 0 →
  wp_X1_refuse 1 T1 fun r38 T37 =>
  Q r38 T37) ∧ (¬ r2 = 0 →
  wp_X1_hasTree  T1 fun r5 T4 =>
  ((r5 = 0 →
  wp_X1_refuse 3 T4 fun r36 T35 =>
  Q r36 T35) ∧ (¬ r5 = 0 →
  wp_X1_isNode p0 T4 fun r8 T7 =>
  ((r8 = 0 →
  wp_X1_refuse 4 T7 fun r34 T33 =>
  Q r34 T33) ∧ (¬ r8 = 0 →
  tix 20 40 p0 ∧
  wp_X1_beginsChange  T7 fun T10 =>
  tlp (σ := Int32) (fun s12 T13 k12 =>
  (((((8 * (T13.s 250)) ≤ s12) ∨ ((T7.a 20 (ni p0)) = p1)) →
  tix 20 40 p0 ∧
  ∀ T16, T16 = T13.sa 20 (ni p0) p1 →
  wp_X1_counts  T16 fun T17 =>
  wp_X1_gives (T7.a 20 (ni p0)) T17 fun r20 T19 =>
  Q r20 T19) ∧ (¬ (((8 * (T13.s 250)) ≤ s12) ∨ ((T7.a 20 (ni p0)) = p1)) →
  tix 36 42 s12 ∧
  (((T13.a 36 (ni s12)) = 0 →
  tix 39 42 s12 ∧
  ∀ T22, T22 = T13.sa 39 (ni s12) (vp_nar .boolean 0) →
  k12 (s12 + 1) T22) ∧ (¬ (T13.a 36 (ni s12)) = 0 →
  tix 26 40 s12 ∧
  (((T13.a 26 (ni s12)) = p0 →
  wp_X1_asksOwn s12 T13 fun r26 T25 =>
  ∀ m27 : Int32, m27 = (if r26 = 0 then 0 else 1) →
  tix 39 42 s12 ∧
  ∀ T29, T29 = T25.sa 39 (ni s12) (vp_nar .boolean m27) →
  k12 (s12 + 1) T29) ∧ (¬ (T13.a 26 (ni s12)) = p0 →
  tix 39 42 s12 ∧
  ∀ T24, T24 = T13.sa 39 (ni s12) (vp_nar .boolean 0) →
  k12 (s12 + 1) T24))))))) 0 T10))))))
theorem hd_X1_put : yX1_put.cls = RX1 ∧ yX1_put.cls ≠ "java/lang/invoke/MethodHandle" ∧ yX1_put.cls ≠ "java/lang/invoke/VarHandle" ∧ (parseMethodDescriptor yX1_put.desc).map (fun d => d.parameters.length) = some 2 := by decide +kernel
theorem ok_X1_put {l : Launch} {D : va_G} {s0 : S0} (hG : G0 D s0) {o : Nat} {p0 : Int32} {p1 : Int32} {T : TS} {Q : Int32 → TS → Prop} (hw : wp_X1_put p0 p1 T Q) : OKt l D s0 o yX1_put cX1_put 5 (some .int) 6 143 [vA (some o), vI p0, vI p1] T (TI Q) := by
  refine t_met hG rfl rfl (L0 := [(0, vA (some o)), (1, vI p0), (2, vI p1)]) rfl rfl ?_
  intro h K C
  unfold wp_X1_put at hw
  refine t_b C (pc' := 5) (L' := [(0, vA (some o)), (1, vI p0), (2, vI p1)]) (st' := [vI 9999, vI 0, vI p1]) [(.iload_n 2, 1), (.iconst 0, 1), (.sipush 9999, 3)] ⟨dX1_put_0, dX1_put_1, dX1_put_2, rfl⟩ rfl ?_
  refine t_callSI C 8 [vI p1, vI 0, vI 9999] [] dX1_put_5 rfl (ok_X1_isFrom hG hw) q2431 q2432 q159 q2433 hd_X1_isFrom ⟨rfl, rfl, rfl⟩ (fun r2 T1 hw => ?_)
  refine t_if_ne C 17 11 dX1_put_8 rfl rfl (fun hc3 => ?_) (fun hc3 => ?_)
  · replace hw := hw.2 hc3
    refine t_b C (pc' := 18) (L' := [(0, vA (some o)), (1, vI p0), (2, vI p1)]) (st' := [vA (some o)]) [(.aload_n 0, 1)] ⟨dX1_put_17, rfl⟩ rfl ?_
    refine t_callVI C 21 [] [] dX1_put_18 rfl (ok_X1_hasTree hG hw) q2849 q2851 qs148 q159 q2852 hd_X1_hasTree ⟨rfl, rfl, rfl⟩ (fun r5 T4 hw => ?_)
    refine t_if_ne C 30 24 dX1_put_21 rfl rfl (fun hc6 => ?_) (fun hc6 => ?_)
    · replace hw := hw.2 hc6
      refine t_b C (pc' := 32) (L' := [(0, vA (some o)), (1, vI p0), (2, vI p1)]) (st' := [vI p0, vA (some o)]) [(.aload_n 0, 1), (.iload_n 1, 1)] ⟨dX1_put_30, dX1_put_31, rfl⟩ rfl ?_
      refine t_callVI C 35 [vI p0] [] dX1_put_32 rfl (ok_X1_isNode hG hw) q2778 q2780 qs134 q159 q2781 hd_X1_isNode ⟨rfl, rfl, rfl⟩ (fun r8 T7 hw => ?_)
      refine t_if_ne C 44 38 dX1_put_35 rfl rfl (fun hc9 => ?_) (fun hc9 => ?_)
      · replace hw := hw.2 hc9
        refine t_b C (pc' := 45) (L' := [(0, vA (some o)), (1, vI p0), (2, vI p1)]) (st' := [vA (some o)]) [(.aload_n 0, 1)] ⟨dX1_put_44, rfl⟩ rfl ?_
        refine t_gA C 244 20 48 dX1_put_45 rfl rfl rfl rfl rfl q2232 (fun _ _ _ => rfl) ?_
        refine t_b C (pc' := 49) (L' := [(0, vA (some o)), (1, vI p0), (2, vI p1)]) (st' := [vI p0, vA (some (o + 1 + 20))]) [(.iload_n 1, 1)] ⟨dX1_put_48, rfl⟩ rfl ?_
        refine t_iald C 50 dX1_put_49 rfl hw.1 ?_
        replace hw := hw.2
        refine t_b C (pc' := 52) (L' := [(3, vI (T7.a 20 (ni p0))), (0, vA (some o)), (1, vI p0), (2, vI p1)]) (st' := [vA (some o)]) [(.istore_n 3, 1), (.aload_n 0, 1)] ⟨dX1_put_50, dX1_put_51, rfl⟩ rfl ?_
        refine t_callVV C 55 [] [] dX1_put_52 rfl (ok_X1_beginsChange hG hw) q2873 q2875 qs149 q159 q2876 hd_X1_beginsChange ⟨rfl, rfl, rfl⟩ (fun T10 hw => ?_)
        refine t_b C (pc' := 58) (L' := [(4, vI 0), (3, vI (T7.a 20 (ni p0))), (0, vA (some o)), (1, vI p0), (2, vI p1)]) (st' := []) [(.iconst 0, 1), (.istore 4, 2)] ⟨dX1_put_55, dX1_put_56, rfl⟩ rfl ?_
        obtain ⟨I12, ⟨n12, hI12⟩, hB12⟩ := tlp.out hw
        refine t_sub C (L' := [(0, vA (some o)), (1, vI p0), (2, vI p1), (3, vI (T7.a 20 (ni p0))), (4, vI 0)]) [2, 3, 4, 1, 0] rfl ?_
        have key12 : ∀ (n : Nat) (s12 : Int32) (T13 : TS), I12 n s12 T13 → K 58 [(0, vA (some o)), (1, vI p0), (2, vI p1), (3, vI (T7.a 20 (ni p0))), (4, vI s12)] [] T13 := by
          intro n
          induction n using Nat.strongRecOn with
          | ind n ih12 =>
            intro s12 T13 hI
            replace hw := hB12 n s12 T13 hI
            refine t_b C (pc' := 63) (L' := [(0, vA (some o)), (1, vI p0), (2, vI p1), (3, vI (T7.a 20 (ni p0))), (4, vI s12)]) (st' := [vA (some o), vI 8, vI s12]) [(.iload 4, 2), (.bipush 8, 2), (.aload_n 0, 1)] ⟨dX1_put_58, dX1_put_60, dX1_put_62, rfl⟩ rfl ?_
            refine t_gI C 250 66 dX1_put_63 rfl rfl rfl q2238 (fun _ _ _ => rfl) ?_
            refine t_b C (pc' := 67) (L' := [(0, vA (some o)), (1, vI p0), (2, vI p1), (3, vI (T7.a 20 (ni p0))), (4, vI s12)]) (st' := [vI (8 * (T13.s 250)), vI s12]) [(.imul, 1)] ⟨dX1_put_66, rfl⟩ rfl ?_
            have kx14 : (((8 * (T13.s 250)) ≤ s12) ∨ ((T7.a 20 (ni p0)) = p1)) → K 123 [(0, vA (some o)), (1, vI p0), (2, vI p1), (3, vI (T7.a 20 (ni p0))), (4, vI s12)] [] T13 := by
              intro hcc
              replace hw := hw.1 hcc
              refine t_b C (pc' := 124) (L' := [(0, vA (some o)), (1, vI p0), (2, vI p1), (3, vI (T7.a 20 (ni p0))), (4, vI s12)]) (st' := [vA (some o)]) [(.aload_n 0, 1)] ⟨dX1_put_123, rfl⟩ rfl ?_
              refine t_gA C 244 20 127 dX1_put_124 rfl rfl rfl rfl rfl q2232 (fun _ _ _ => rfl) ?_
              refine t_b C (pc' := 129) (L' := [(0, vA (some o)), (1, vI p0), (2, vI p1), (3, vI (T7.a 20 (ni p0))), (4, vI s12)]) (st' := [vI p1, vI p0, vA (some (o + 1 + 20))]) [(.iload_n 1, 1), (.iload_n 2, 1)] ⟨dX1_put_127, dX1_put_128, rfl⟩ rfl ?_
              refine t_iast C 130 dX1_put_129 rfl hw.1 (fun T16 eT16 => ?_)
              replace hw := hw.2 T16 eT16
              refine t_b C (pc' := 131) (L' := [(0, vA (some o)), (1, vI p0), (2, vI p1), (3, vI (T7.a 20 (ni p0))), (4, vI s12)]) (st' := [vA (some o)]) [(.aload_n 0, 1)] ⟨dX1_put_130, rfl⟩ rfl ?_
              refine t_callVV C 134 [] [] dX1_put_131 rfl (ok_X1_counts hG hw) q2881 q2883 qs151 q159 q2884 hd_X1_counts ⟨rfl, rfl, rfl⟩ (fun T17 hw => ?_)
              refine t_b C (pc' := 136) (L' := [(0, vA (some o)), (1, vI p0), (2, vI p1), (3, vI (T7.a 20 (ni p0))), (4, vI s12)]) (st' := [vI (T7.a 20 (ni p0)), vA (some o)]) [(.aload_n 0, 1), (.iload_n 3, 1)] ⟨dX1_put_134, dX1_put_135, rfl⟩ rfl ?_
              refine t_callVI C 139 [vI (T7.a 20 (ni p0))] [] dX1_put_136 rfl (ok_X1_gives hG hw) q2589 q2591 qs100 q159 q2592 hd_X1_gives ⟨rfl, rfl, rfl⟩ (fun r20 T19 hw => ?_)
              exact t_iret C dX1_put_139 ⟨_, rfl, hw⟩
            have ky15 : ¬ (((8 * (T13.s 250)) ≤ s12) ∨ ((T7.a 20 (ni p0)) = p1)) → K 87 [(0, vA (some o)), (1, vI p0), (2, vI p1), (3, vI (T7.a 20 (ni p0))), (4, vI s12)] [vI s12, vA (some (o + 1 + 36)), vI s12, vA (some (o + 1 + 39))] T13 := by
              intro hcc
              replace hw := hw.2 hcc
              refine t_zald C 88 dX1_put_87 rfl hw.1 ?_
              replace hw := hw.2
              refine t_if_eq C 115 91 dX1_put_88 rfl rfl (fun hc21 => ?_) (fun hc21 => ?_)
              · replace hw := hw.1 hc21
                refine t_b C (pc' := 116) (L' := [(0, vA (some o)), (1, vI p0), (2, vI p1), (3, vI (T7.a 20 (ni p0))), (4, vI s12)]) (st' := [vI 0, vI s12, vA (some (o + 1 + 39))]) [(.iconst 0, 1)] ⟨dX1_put_115, rfl⟩ rfl ?_
                refine t_zast C 117 dX1_put_116 rfl hw.1 (fun T22 eT22 => ?_)
                replace hw := hw.2 T22 eT22
                refine t_b C (pc' := 120) (L' := [(4, vI (s12 + 1)), (0, vA (some o)), (1, vI p0), (2, vI p1), (3, vI (T7.a 20 (ni p0)))]) (st' := []) [(.iinc 4 1, 3)] ⟨dX1_put_117, rfl⟩ rfl ?_
                refine t_goto C 58 dX1_put_120 rfl ?_
                refine t_sub C (L' := [(0, vA (some o)), (1, vI p0), (2, vI p1), (3, vI (T7.a 20 (ni p0))), (4, vI (s12 + 1))]) [1, 2, 3, 4, 0] rfl ?_
                obtain ⟨m9, hm9, hw⟩ := hw
                exact ih12 m9 hm9 (s12 + 1) T22 hw
              · replace hw := hw.2 hc21
                refine t_b C (pc' := 92) (L' := [(0, vA (some o)), (1, vI p0), (2, vI p1), (3, vI (T7.a 20 (ni p0))), (4, vI s12)]) (st' := [vA (some o), vI s12, vA (some (o + 1 + 39))]) [(.aload_n 0, 1)] ⟨dX1_put_91, rfl⟩ rfl ?_
                refine t_gA C 256 26 95 dX1_put_92 rfl rfl rfl rfl rfl q2244 (fun _ _ _ => rfl) ?_
                refine t_b C (pc' := 97) (L' := [(0, vA (some o)), (1, vI p0), (2, vI p1), (3, vI (T7.a 20 (ni p0))), (4, vI s12)]) (st' := [vI s12, vA (some (o + 1 + 26)), vI s12, vA (some (o + 1 + 39))]) [(.iload 4, 2)] ⟨dX1_put_95, rfl⟩ rfl ?_
                refine t_iald C 98 dX1_put_97 rfl hw.1 ?_
                replace hw := hw.2
                refine t_b C (pc' := 99) (L' := [(0, vA (some o)), (1, vI p0), (2, vI p1), (3, vI (T7.a 20 (ni p0))), (4, vI s12)]) (st' := [vI p0, vI (T13.a 26 (ni s12)), vI s12, vA (some (o + 1 + 39))]) [(.iload_n 1, 1)] ⟨dX1_put_98, rfl⟩ rfl ?_
                refine t_icmp_ne C 115 102 dX1_put_99 rfl rfl (fun hc23 => ?_) (fun hc23 => ?_)
                · replace hw := hw.2 hc23
                  refine t_b C (pc' := 116) (L' := [(0, vA (some o)), (1, vI p0), (2, vI p1), (3, vI (T7.a 20 (ni p0))), (4, vI s12)]) (st' := [vI 0, vI s12, vA (some (o + 1 + 39))]) [(.iconst 0, 1)] ⟨dX1_put_115, rfl⟩ rfl ?_
                  refine t_zast C 117 dX1_put_116 rfl hw.1 (fun T24 eT24 => ?_)
                  replace hw := hw.2 T24 eT24
                  refine t_b C (pc' := 120) (L' := [(4, vI (s12 + 1)), (0, vA (some o)), (1, vI p0), (2, vI p1), (3, vI (T7.a 20 (ni p0)))]) (st' := []) [(.iinc 4 1, 3)] ⟨dX1_put_117, rfl⟩ rfl ?_
                  refine t_goto C 58 dX1_put_120 rfl ?_
                  refine t_sub C (L' := [(0, vA (some o)), (1, vI p0), (2, vI p1), (3, vI (T7.a 20 (ni p0))), (4, vI (s12 + 1))]) [1, 2, 3, 4, 0] rfl ?_
                  obtain ⟨m9, hm9, hw⟩ := hw
                  exact ih12 m9 hm9 (s12 + 1) T24 hw
                · replace hw := hw.1 hc23
                  refine t_b C (pc' := 105) (L' := [(0, vA (some o)), (1, vI p0), (2, vI p1), (3, vI (T7.a 20 (ni p0))), (4, vI s12)]) (st' := [vI s12, vA (some o), vI s12, vA (some (o + 1 + 39))]) [(.aload_n 0, 1), (.iload 4, 2)] ⟨dX1_put_102, dX1_put_103, rfl⟩ rfl ?_
                  refine t_callVI C 108 [vI s12] [vI s12, vA (some (o + 1 + 39))] dX1_put_105 rfl (ok_X1_asksOwn hG hw) q2877 q2879 qs150 q159 q2880 hd_X1_asksOwn ⟨rfl, rfl, rfl⟩ (fun r26 T25 hw => ?_)
                  have kj28 : ∀ (m27 : Int32), m27 = (if r26 = 0 then 0 else 1) → K 116 [(0, vA (some o)), (1, vI p0), (2, vI p1), (3, vI (T7.a 20 (ni p0))), (4, vI s12)] [vI m27, vI s12, vA (some (o + 1 + 39))] T25 := by
                    intro m27 em27
                    replace hw := hw m27 em27
                    refine t_zast C 117 dX1_put_116 rfl hw.1 (fun T29 eT29 => ?_)
                    replace hw := hw.2 T29 eT29
                    refine t_b C (pc' := 120) (L' := [(4, vI (s12 + 1)), (0, vA (some o)), (1, vI p0), (2, vI p1), (3, vI (T7.a 20 (ni p0)))]) (st' := []) [(.iinc 4 1, 3)] ⟨dX1_put_117, rfl⟩ rfl ?_
                    refine t_goto C 58 dX1_put_120 rfl ?_
                    refine t_sub C (L' := [(0, vA (some o)), (1, vI p0), (2, vI p1), (3, vI (T7.a 20 (ni p0))), (4, vI (s12 + 1))]) [1, 2, 3, 4, 0] rfl ?_
                    obtain ⟨m9, hm9, hw⟩ := hw
                    exact ih12 m9 hm9 (s12 + 1) T29 hw
                  refine t_if_eq C 115 111 dX1_put_108 rfl rfl (fun hc30 => ?_) (fun hc30 => ?_)
                  · refine t_b C (pc' := 116) (L' := [(0, vA (some o)), (1, vI p0), (2, vI p1), (3, vI (T7.a 20 (ni p0))), (4, vI s12)]) (st' := [vI 0, vI s12, vA (some (o + 1 + 39))]) [(.iconst 0, 1)] ⟨dX1_put_115, rfl⟩ rfl ?_
                    refine t_sub C (L' := [(0, vA (some o)), (1, vI p0), (2, vI p1), (3, vI (T7.a 20 (ni p0))), (4, vI s12)]) [0, 1, 2, 3, 4] rfl ?_
                    exact kj28 _ ((if_pos hc30).symm)
                  · refine t_b C (pc' := 112) (L' := [(0, vA (some o)), (1, vI p0), (2, vI p1), (3, vI (T7.a 20 (ni p0))), (4, vI s12)]) (st' := [vI 1, vI s12, vA (some (o + 1 + 39))]) [(.iconst 1, 1)] ⟨dX1_put_111, rfl⟩ rfl ?_
                    refine t_goto C 116 dX1_put_112 rfl ?_
                    refine t_sub C (L' := [(0, vA (some o)), (1, vI p0), (2, vI p1), (3, vI (T7.a 20 (ni p0))), (4, vI s12)]) [0, 1, 2, 3, 4] rfl ?_
                    exact kj28 _ ((if_neg hc30).symm)
            refine t_icmp_ge C 123 70 dX1_put_67 rfl rfl (fun hc31 => ?_) (fun hc31 => ?_)
            · exact kx14 (Or.inl hc31)
            · refine t_b C (pc' := 72) (L' := [(0, vA (some o)), (1, vI p0), (2, vI p1), (3, vI (T7.a 20 (ni p0))), (4, vI s12)]) (st' := [vI p1, vI (T7.a 20 (ni p0))]) [(.iload_n 3, 1), (.iload_n 2, 1)] ⟨dX1_put_70, dX1_put_71, rfl⟩ rfl ?_
              refine t_icmp_eq C 123 75 dX1_put_72 rfl rfl (fun hc32 => ?_) (fun hc32 => ?_)
              · exact kx14 (Or.inr hc32)
              · refine t_b C (pc' := 76) (L' := [(0, vA (some o)), (1, vI p0), (2, vI p1), (3, vI (T7.a 20 (ni p0))), (4, vI s12)]) (st' := [vA (some o)]) [(.aload_n 0, 1)] ⟨dX1_put_75, rfl⟩ rfl ?_
                refine t_gA C 269 39 79 dX1_put_76 rfl rfl rfl rfl rfl q2257 (fun _ _ _ => rfl) ?_
                refine t_b C (pc' := 82) (L' := [(0, vA (some o)), (1, vI p0), (2, vI p1), (3, vI (T7.a 20 (ni p0))), (4, vI s12)]) (st' := [vA (some o), vI s12, vA (some (o + 1 + 39))]) [(.iload 4, 2), (.aload_n 0, 1)] ⟨dX1_put_79, dX1_put_81, rfl⟩ rfl ?_
                refine t_gA C 266 36 85 dX1_put_82 rfl rfl rfl rfl rfl q2254 (fun _ _ _ => rfl) ?_
                refine t_b C (pc' := 87) (L' := [(0, vA (some o)), (1, vI p0), (2, vI p1), (3, vI (T7.a 20 (ni p0))), (4, vI s12)]) (st' := [vI s12, vA (some (o + 1 + 36)), vI s12, vA (some (o + 1 + 39))]) [(.iload 4, 2)] ⟨dX1_put_85, rfl⟩ rfl ?_
                exact ky15 (fun h0 => h0.elim hc31 hc32)
        exact key12 n12 0 T10 hI12
      · replace hw := hw.1 hc9
        refine t_b C (pc' := 40) (L' := [(0, vA (some o)), (1, vI p0), (2, vI p1)]) (st' := [vI 4, vA (some o)]) [(.aload_n 0, 1), (.iconst 4, 1)] ⟨dX1_put_38, dX1_put_39, rfl⟩ rfl ?_
        refine t_callVI C 43 [vI 4] [] dX1_put_40 rfl (ok_X1_refuse hG hw) q2434 q2436 qs70 q159 q2437 hd_X1_refuse ⟨rfl, rfl, rfl⟩ (fun r34 T33 hw => ?_)
        exact t_iret C dX1_put_43 ⟨_, rfl, hw⟩
    · replace hw := hw.1 hc6
      refine t_b C (pc' := 26) (L' := [(0, vA (some o)), (1, vI p0), (2, vI p1)]) (st' := [vI 3, vA (some o)]) [(.aload_n 0, 1), (.iconst 3, 1)] ⟨dX1_put_24, dX1_put_25, rfl⟩ rfl ?_
      refine t_callVI C 29 [vI 3] [] dX1_put_26 rfl (ok_X1_refuse hG hw) q2434 q2436 qs70 q159 q2437 hd_X1_refuse ⟨rfl, rfl, rfl⟩ (fun r36 T35 hw => ?_)
      exact t_iret C dX1_put_29 ⟨_, rfl, hw⟩
  · replace hw := hw.1 hc3
    refine t_b C (pc' := 13) (L' := [(0, vA (some o)), (1, vI p0), (2, vI p1)]) (st' := [vI 1, vA (some o)]) [(.aload_n 0, 1), (.iconst 1, 1)] ⟨dX1_put_11, dX1_put_12, rfl⟩ rfl ?_
    refine t_callVI C 16 [vI 1] [] dX1_put_13 rfl (ok_X1_refuse hG hw) q2434 q2436 qs70 q159 q2437 hd_X1_refuse ⟨rfl, rfl, rfl⟩ (fun r38 T37 hw => ?_)
    exact t_iret C dX1_put_16 ⟨_, rfl, hw⟩
def wp_X1_round  (T : TS) (Q : TS → Prop) : Prop :=
  ∀ T1, T1 = T.ss 239 ((T.s 239) + 1) →
  ∀ T2, T2 = T1.ss 242 0 →
  tlp (σ := Int32) (fun s3 T4 k3 =>
  tix 1 40 0 ∧
  (((T4.a 1 (ni 0)) ≤ s3 →
  tlp (σ := Int32) (fun s6 T7 k6 =>
  tix 1 40 1 ∧
  (((T7.a 1 (ni 1)) ≤ s6 →
  Q T7) ∧ (¬ (T7.a 1 (ni 1)) ≤ s6 →
  tix 1 40 (32 + s6) ∧
  ∀ m9 : Int32, m9 = (if (T7.a 1 (ni (32 + s6))) = 0 then 1 else 0) →
  ∀ m11 : Int32, m11 = (if (T7.s 239) = 1 then 1 else 0) →
  ((m9 = m11 →
  wp_X1_chooses 6 s6 1 T7 fun T14 =>
  k6 (s6 + 1) T14) ∧ (¬ m9 = m11 →
  k6 (s6 + 1) T7))))) 0 T4) ∧ (¬ (T4.a 1 (ni 0)) ≤ s3 →
  tix 16 40 s3 ∧
  tix 17 40 s3 ∧
  ∀ T18, T18 = T4.sa 17 (ni s3) (T4.a 16 (ni s3)) →
  k3 (s3 + 1) T18))) 0 T2
theorem hd_X1_round : yX1_round.cls = RX1 ∧ yX1_round.cls ≠ "java/lang/invoke/MethodHandle" ∧ yX1_round.cls ≠ "java/lang/invoke/VarHandle" ∧ (parseMethodDescriptor yX1_round.desc).map (fun d => d.parameters.length) = some 0 := by decide +kernel
theorem ok_X1_round {l : Launch} {D : va_G} {s0 : S0} (hG : G0 D s0) {o : Nat}  {T : TS} {Q : TS → Prop} (hw : wp_X1_round  T Q) : OKt l D s0 o yX1_round cX1_round 2 none 10 237 [vA (some o)] T (TV Q) := by
  refine t_met hG rfl rfl (L0 := [(0, vA (some o))]) rfl rfl ?_
  intro h K C
  unfold wp_X1_round at hw
  refine t_b C (pc' := 2) (L' := [(0, vA (some o))]) (st' := [vA (some o), vA (some o)]) [(.aload_n 0, 1), (.dup, 1)] ⟨dX1_round_0, dX1_round_1, rfl⟩ rfl ?_
  refine t_gI C 239 5 dX1_round_2 rfl rfl rfl q2227 (fun _ _ _ => rfl) ?_
  refine t_b C (pc' := 7) (L' := [(0, vA (some o))]) (st' := [vI ((T.s 239) + 1), vA (some o)]) [(.iconst 1, 1), (.iadd, 1)] ⟨dX1_round_5, dX1_round_6, rfl⟩ rfl ?_
  refine t_pI C 239 10 dX1_round_7 rfl rfl rfl rfl q2227 (fun _ _ _ => rfl) rfl rfl (fun T1 eT1 => ?_)
  replace hw := hw T1 eT1
  refine t_b C (pc' := 12) (L' := [(0, vA (some o))]) (st' := [vI 0, vA (some o)]) [(.aload_n 0, 1), (.iconst 0, 1)] ⟨dX1_round_10, dX1_round_11, rfl⟩ rfl ?_
  refine t_pI C 242 15 dX1_round_12 rfl rfl rfl rfl q2230 (fun _ _ _ => rfl) rfl rfl (fun T2 eT2 => ?_)
  replace hw := hw T2 eT2
  refine t_b C (pc' := 17) (L' := [(1, vI 0), (0, vA (some o))]) (st' := []) [(.iconst 0, 1), (.istore_n 1, 1)] ⟨dX1_round_15, dX1_round_16, rfl⟩ rfl ?_
  obtain ⟨I3, ⟨n3, hI3⟩, hB3⟩ := tlp.out hw
  refine t_sub C (L' := [(0, vA (some o)), (1, vI 0)]) [1, 0] rfl ?_
  have key3 : ∀ (n : Nat) (s3 : Int32) (T4 : TS), I3 n s3 T4 → K 17 [(0, vA (some o)), (1, vI s3)] [] T4 := by
    intro n
    induction n using Nat.strongRecOn with
    | ind n ih3 =>
      intro s3 T4 hI
      replace hw := hB3 n s3 T4 hI
      refine t_b C (pc' := 19) (L' := [(0, vA (some o)), (1, vI s3)]) (st' := [vA (some o), vI s3]) [(.iload_n 1, 1), (.aload_n 0, 1)] ⟨dX1_round_17, dX1_round_18, rfl⟩ rfl ?_
      refine t_gA C 201 1 22 dX1_round_19 rfl rfl rfl rfl rfl q2189 (fun _ _ _ => rfl) ?_
      refine t_b C (pc' := 23) (L' := [(0, vA (some o)), (1, vI s3)]) (st' := [vI 0, vA (some (o + 1 + 1)), vI s3]) [(.iconst 0, 1)] ⟨dX1_round_22, rfl⟩ rfl ?_
      refine t_iald C 24 dX1_round_23 rfl hw.1 ?_
      replace hw := hw.2
      refine t_icmp_ge C 45 27 dX1_round_24 rfl rfl (fun hc5 => ?_) (fun hc5 => ?_)
      · replace hw := hw.1 hc5
        refine t_b C (pc' := 47) (L' := [(1, vI 0), (0, vA (some o))]) (st' := []) [(.iconst 0, 1), (.istore_n 1, 1)] ⟨dX1_round_45, dX1_round_46, rfl⟩ rfl ?_
        obtain ⟨I6, ⟨n6, hI6⟩, hB6⟩ := tlp.out hw
        refine t_sub C (L' := [(0, vA (some o)), (1, vI 0)]) [1, 0] rfl ?_
        have key6 : ∀ (n : Nat) (s6 : Int32) (T7 : TS), I6 n s6 T7 → K 47 [(0, vA (some o)), (1, vI s6)] [] T7 := by
          intro n
          induction n using Nat.strongRecOn with
          | ind n ih6 =>
            intro s6 T7 hI
            replace hw := hB6 n s6 T7 hI
            refine t_b C (pc' := 49) (L' := [(0, vA (some o)), (1, vI s6)]) (st' := [vA (some o), vI s6]) [(.iload_n 1, 1), (.aload_n 0, 1)] ⟨dX1_round_47, dX1_round_48, rfl⟩ rfl ?_
            refine t_gA C 201 1 52 dX1_round_49 rfl rfl rfl rfl rfl q2189 (fun _ _ _ => rfl) ?_
            refine t_b C (pc' := 53) (L' := [(0, vA (some o)), (1, vI s6)]) (st' := [vI 1, vA (some (o + 1 + 1)), vI s6]) [(.iconst 1, 1)] ⟨dX1_round_52, rfl⟩ rfl ?_
            refine t_iald C 54 dX1_round_53 rfl hw.1 ?_
            replace hw := hw.2
            refine t_icmp_ge C 102 57 dX1_round_54 rfl rfl (fun hc8 => ?_) (fun hc8 => ?_)
            · replace hw := hw.1 hc8
              exact t_vret C dX1_round_102 ⟨rfl, hw⟩
            · replace hw := hw.2 hc8
              refine t_b C (pc' := 58) (L' := [(0, vA (some o)), (1, vI s6)]) (st' := [vA (some o)]) [(.aload_n 0, 1)] ⟨dX1_round_57, rfl⟩ rfl ?_
              refine t_gA C 201 1 61 dX1_round_58 rfl rfl rfl rfl rfl q2189 (fun _ _ _ => rfl) ?_
              refine t_b C (pc' := 65) (L' := [(0, vA (some o)), (1, vI s6)]) (st' := [vI (32 + s6), vA (some (o + 1 + 1))]) [(.bipush 32, 2), (.iload_n 1, 1), (.iadd, 1)] ⟨dX1_round_61, dX1_round_63, dX1_round_64, rfl⟩ rfl ?_
              refine t_iald C 66 dX1_round_65 rfl hw.1 ?_
              replace hw := hw.2
              have kj10 : ∀ (m9 : Int32), m9 = (if (T7.a 1 (ni (32 + s6))) = 0 then 1 else 0) → K 74 [(0, vA (some o)), (1, vI s6)] [vI m9] T7 := by
                intro m9 em9
                replace hw := hw m9 em9
                refine t_b C (pc' := 75) (L' := [(0, vA (some o)), (1, vI s6)]) (st' := [vA (some o), vI m9]) [(.aload_n 0, 1)] ⟨dX1_round_74, rfl⟩ rfl ?_
                refine t_gI C 239 78 dX1_round_75 rfl rfl rfl q2227 (fun _ _ _ => rfl) ?_
                refine t_b C (pc' := 79) (L' := [(0, vA (some o)), (1, vI s6)]) (st' := [vI 1, vI (T7.s 239), vI m9]) [(.iconst 1, 1)] ⟨dX1_round_78, rfl⟩ rfl ?_
                have kj12 : ∀ (m11 : Int32), m11 = (if (T7.s 239) = 1 then 1 else 0) → K 87 [(0, vA (some o)), (1, vI s6)] [vI m11, vI m9] T7 := by
                  intro m11 em11
                  replace hw := hw m11 em11
                  refine t_icmp_ne C 96 90 dX1_round_87 rfl rfl (fun hc13 => ?_) (fun hc13 => ?_)
                  · replace hw := hw.2 hc13
                    refine t_b C (pc' := 99) (L' := [(1, vI (s6 + 1)), (0, vA (some o))]) (st' := []) [(.iinc 1 1, 3)] ⟨dX1_round_96, rfl⟩ rfl ?_
                    refine t_goto C 47 dX1_round_99 rfl ?_
                    refine t_sub C (L' := [(0, vA (some o)), (1, vI (s6 + 1))]) [1, 0] rfl ?_
                    obtain ⟨m9, hm9, hw⟩ := hw
                    exact ih6 m9 hm9 (s6 + 1) T7 hw
                  · replace hw := hw.1 hc13
                    refine t_b C (pc' := 93) (L' := [(0, vA (some o)), (1, vI s6)]) (st' := [vI 1, vI s6, vA (some o)]) [(.aload_n 0, 1), (.iload_n 1, 1), (.iconst 1, 1)] ⟨dX1_round_90, dX1_round_91, dX1_round_92, rfl⟩ rfl ?_
                    refine t_callVV C 96 [vI s6, vI 1] [] dX1_round_93 rfl (ok_X1_chooses hG 6 hw) q2738 q2740 qs126 q159 q2741 hd_X1_chooses ⟨rfl, rfl, rfl⟩ (fun T14 hw => ?_)
                    refine t_b C (pc' := 99) (L' := [(1, vI (s6 + 1)), (0, vA (some o))]) (st' := []) [(.iinc 1 1, 3)] ⟨dX1_round_96, rfl⟩ rfl ?_
                    refine t_goto C 47 dX1_round_99 rfl ?_
                    refine t_sub C (L' := [(0, vA (some o)), (1, vI (s6 + 1))]) [1, 0] rfl ?_
                    obtain ⟨m9, hm9, hw⟩ := hw
                    exact ih6 m9 hm9 (s6 + 1) T14 hw
                refine t_icmp_ne C 86 82 dX1_round_79 rfl rfl (fun hc16 => ?_) (fun hc16 => ?_)
                · refine t_b C (pc' := 87) (L' := [(0, vA (some o)), (1, vI s6)]) (st' := [vI 0, vI m9]) [(.iconst 0, 1)] ⟨dX1_round_86, rfl⟩ rfl ?_
                  refine t_sub C (L' := [(0, vA (some o)), (1, vI s6)]) [0, 1] rfl ?_
                  exact kj12 _ ((if_neg hc16).symm)
                · refine t_b C (pc' := 83) (L' := [(0, vA (some o)), (1, vI s6)]) (st' := [vI 1, vI m9]) [(.iconst 1, 1)] ⟨dX1_round_82, rfl⟩ rfl ?_
                  refine t_goto C 87 dX1_round_83 rfl ?_
                  refine t_sub C (L' := [(0, vA (some o)), (1, vI s6)]) [0, 1] rfl ?_
                  exact kj12 _ ((if_pos hc16).symm)
              refine t_if_ne C 73 69 dX1_round_66 rfl rfl (fun hc17 => ?_) (fun hc17 => ?_)
              · refine t_b C (pc' := 74) (L' := [(0, vA (some o)), (1, vI s6)]) (st' := [vI 0]) [(.iconst 0, 1)] ⟨dX1_round_73, rfl⟩ rfl ?_
                refine t_sub C (L' := [(0, vA (some o)), (1, vI s6)]) [0, 1] rfl ?_
                exact kj10 _ ((if_neg hc17).symm)
              · refine t_b C (pc' := 70) (L' := [(0, vA (some o)), (1, vI s6)]) (st' := [vI 1]) [(.iconst 1, 1)] ⟨dX1_round_69, rfl⟩ rfl ?_
                refine t_goto C 74 dX1_round_70 rfl ?_
                refine t_sub C (L' := [(0, vA (some o)), (1, vI s6)]) [0, 1] rfl ?_
                exact kj10 _ ((if_pos hc17).symm)
        exact key6 n6 0 T4 hI6
      · replace hw := hw.2 hc5
        refine t_b C (pc' := 28) (L' := [(0, vA (some o)), (1, vI s3)]) (st' := [vA (some o)]) [(.aload_n 0, 1)] ⟨dX1_round_27, rfl⟩ rfl ?_
        refine t_gA C 237 17 31 dX1_round_28 rfl rfl rfl rfl rfl q2225 (fun _ _ _ => rfl) ?_
        refine t_b C (pc' := 33) (L' := [(0, vA (some o)), (1, vI s3)]) (st' := [vA (some o), vI s3, vA (some (o + 1 + 17))]) [(.iload_n 1, 1), (.aload_n 0, 1)] ⟨dX1_round_31, dX1_round_32, rfl⟩ rfl ?_
        refine t_gA C 236 16 36 dX1_round_33 rfl rfl rfl rfl rfl q2224 (fun _ _ _ => rfl) ?_
        refine t_b C (pc' := 37) (L' := [(0, vA (some o)), (1, vI s3)]) (st' := [vI s3, vA (some (o + 1 + 16)), vI s3, vA (some (o + 1 + 17))]) [(.iload_n 1, 1)] ⟨dX1_round_36, rfl⟩ rfl ?_
        refine t_iald C 38 dX1_round_37 rfl hw.1 ?_
        replace hw := hw.2
        refine t_iast C 39 dX1_round_38 rfl hw.1 (fun T18 eT18 => ?_)
        replace hw := hw.2 T18 eT18
        refine t_b C (pc' := 42) (L' := [(1, vI (s3 + 1)), (0, vA (some o))]) (st' := []) [(.iinc 1 1, 3)] ⟨dX1_round_39, rfl⟩ rfl ?_
        refine t_goto C 17 dX1_round_42 rfl ?_
        refine t_sub C (L' := [(0, vA (some o)), (1, vI (s3 + 1))]) [1, 0] rfl ?_
        obtain ⟨m9, hm9, hw⟩ := hw
        exact ih3 m9 hm9 (s3 + 1) T18 hw
  exact key3 n3 0 T2 hI3
def wp_X1_seeks (p0 : Int32) (T : TS) (Q : TS → Prop) : Prop :=
  tlp (σ := Int32) (fun s1 T2 k1 =>
  ((8 ≤ s1 →
  ∀ T4, T4 = T2.ss 239 0 →
  ∀ T5, T5 = T4.ss 240 0 →
  ∀ T6, T6 = T5.ss 241 0 →
  tlp (σ := Unit) (fun s7 T8 k7 =>
  wp_X1_round  T8 fun T9 =>
  (((¬ ((T9.s 242) = 0) ∧ (((T9.s 241) = 0) ∧ ((p0 = 0) ∨ ((T9.s 240) ≤ 0)))) →
  k7 () T9) ∧ (¬ (¬ ((T9.s 242) = 0) ∧ (((T9.s 241) = 0) ∧ ((p0 = 0) ∨ ((T9.s 240) ≤ 0)))) →
  Q T9))) () T6) ∧ (¬ 8 ≤ s1 →
  tix 16 40 s1 ∧
  ∀ T17, T17 = T2.sa 16 (ni s1) 0 →
  k1 (s1 + 1) T17))) 0 T
theorem hd_X1_seeks : yX1_seeks.cls = RX1 ∧ yX1_seeks.cls ≠ "java/lang/invoke/MethodHandle" ∧ yX1_seeks.cls ≠ "java/lang/invoke/VarHandle" ∧ (parseMethodDescriptor yX1_seeks.desc).map (fun d => d.parameters.length) = some 1 := by decide +kernel
theorem ok_X1_seeks {l : Launch} {D : va_G} {s0 : S0} (hG : G0 D s0) {o : Nat} {p0 : Int32} {T : TS} {Q : TS → Prop} (hw : wp_X1_seeks p0 T Q) : OKt l D s0 o yX1_seeks cX1_seeks 3 none 11 258 [vA (some o), vI p0] T (TV Q) := by
  refine t_met hG rfl rfl (L0 := [(0, vA (some o)), (1, vI p0)]) rfl rfl ?_
  intro h K C
  unfold wp_X1_seeks at hw
  refine t_b C (pc' := 2) (L' := [(2, vI 0), (0, vA (some o)), (1, vI p0)]) (st' := []) [(.iconst 0, 1), (.istore_n 2, 1)] ⟨dX1_seeks_0, dX1_seeks_1, rfl⟩ rfl ?_
  obtain ⟨I1, ⟨n1, hI1⟩, hB1⟩ := tlp.out hw
  refine t_sub C (L' := [(0, vA (some o)), (1, vI p0), (2, vI 0)]) [1, 2, 0] rfl ?_
  have key1 : ∀ (n : Nat) (s1 : Int32) (T2 : TS), I1 n s1 T2 → K 2 [(0, vA (some o)), (1, vI p0), (2, vI s1)] [] T2 := by
    intro n
    induction n using Nat.strongRecOn with
    | ind n ih1 =>
      intro s1 T2 hI
      replace hw := hB1 n s1 T2 hI
      refine t_b C (pc' := 5) (L' := [(0, vA (some o)), (1, vI p0), (2, vI s1)]) (st' := [vI 8, vI s1]) [(.iload_n 2, 1), (.bipush 8, 2)] ⟨dX1_seeks_2, dX1_seeks_3, rfl⟩ rfl ?_
      refine t_icmp_ge C 21 8 dX1_seeks_5 rfl rfl (fun hc3 => ?_) (fun hc3 => ?_)
      · replace hw := hw.1 hc3
        refine t_b C (pc' := 23) (L' := [(0, vA (some o)), (1, vI p0), (2, vI s1)]) (st' := [vI 0, vA (some o)]) [(.aload_n 0, 1), (.iconst 0, 1)] ⟨dX1_seeks_21, dX1_seeks_22, rfl⟩ rfl ?_
        refine t_pI C 239 26 dX1_seeks_23 rfl rfl rfl rfl q2227 (fun _ _ _ => rfl) rfl rfl (fun T4 eT4 => ?_)
        replace hw := hw T4 eT4
        refine t_b C (pc' := 28) (L' := [(0, vA (some o)), (1, vI p0), (2, vI s1)]) (st' := [vI 0, vA (some o)]) [(.aload_n 0, 1), (.iconst 0, 1)] ⟨dX1_seeks_26, dX1_seeks_27, rfl⟩ rfl ?_
        refine t_pI C 240 31 dX1_seeks_28 rfl rfl rfl rfl q2228 (fun _ _ _ => rfl) rfl rfl (fun T5 eT5 => ?_)
        replace hw := hw T5 eT5
        refine t_b C (pc' := 33) (L' := [(0, vA (some o)), (1, vI p0), (2, vI s1)]) (st' := [vI 0, vA (some o)]) [(.aload_n 0, 1), (.iconst 0, 1)] ⟨dX1_seeks_31, dX1_seeks_32, rfl⟩ rfl ?_
        refine t_pI C 241 36 dX1_seeks_33 rfl rfl rfl rfl q2229 (fun _ _ _ => rfl) rfl rfl (fun T6 eT6 => ?_)
        replace hw := hw T6 eT6
        obtain ⟨I7, ⟨n7, hI7⟩, hB7⟩ := tlp.out hw
        refine t_sub C (L' := [(0, vA (some o)), (1, vI p0)]) [0, 1] rfl ?_
        have key7 : ∀ (n : Nat) (s7 : Unit) (T8 : TS), I7 n s7 T8 → K 36 [(0, vA (some o)), (1, vI p0)] [] T8 := by
          intro n
          induction n using Nat.strongRecOn with
          | ind n ih7 =>
            intro s7 T8 hI
            replace hw := hB7 n s7 T8 hI
            refine t_b C (pc' := 37) (L' := [(0, vA (some o)), (1, vI p0)]) (st' := [vA (some o)]) [(.aload_n 0, 1)] ⟨dX1_seeks_36, rfl⟩ rfl ?_
            refine t_callVV C 40 [] [] dX1_seeks_37 rfl (ok_X1_round hG hw) q2734 q2736 qs125 q159 q2737 hd_X1_round ⟨rfl, rfl, rfl⟩ (fun T9 hw => ?_)
            refine t_b C (pc' := 41) (L' := [(0, vA (some o)), (1, vI p0)]) (st' := [vA (some o)]) [(.aload_n 0, 1)] ⟨dX1_seeks_40, rfl⟩ rfl ?_
            refine t_gI C 242 44 dX1_seeks_41 rfl rfl rfl q2230 (fun _ _ _ => rfl) ?_
            have kx11 : (¬ ((T9.s 242) = 0) ∧ (((T9.s 241) = 0) ∧ ((p0 = 0) ∨ ((T9.s 240) ≤ 0)))) → K 36 [(0, vA (some o)), (1, vI p0)] [] T9 := by
              intro hcc
              replace hw := hw.1 hcc
              refine t_sub C (L' := [(0, vA (some o)), (1, vI p0)]) [0, 1] rfl ?_
              obtain ⟨m9, hm9, hw⟩ := hw
              exact ih7 m9 hm9 () T9 hw
            have ky12 : ¬ (¬ ((T9.s 242) = 0) ∧ (((T9.s 241) = 0) ∧ ((p0 = 0) ∨ ((T9.s 240) ≤ 0)))) → K 65 [(0, vA (some o)), (1, vI p0)] [] T9 := by
              intro hcc
              replace hw := hw.2 hcc
              exact t_vret C dX1_seeks_65 ⟨rfl, hw⟩
            refine t_if_eq C 65 47 dX1_seeks_44 rfl rfl (fun hc13 => ?_) (fun hc13 => ?_)
            · exact ky12 (fun h0 => (fun h0 => h0 hc13) h0.1)
            · refine t_b C (pc' := 48) (L' := [(0, vA (some o)), (1, vI p0)]) (st' := [vA (some o)]) [(.aload_n 0, 1)] ⟨dX1_seeks_47, rfl⟩ rfl ?_
              refine t_gI C 241 51 dX1_seeks_48 rfl rfl rfl q2229 (fun _ _ _ => rfl) ?_
              refine t_if_ne C 65 54 dX1_seeks_51 rfl rfl (fun hc14 => ?_) (fun hc14 => ?_)
              · exact ky12 (fun h0 => (fun h0 => hc14 h0.1) h0.2)
              · refine t_b C (pc' := 55) (L' := [(0, vA (some o)), (1, vI p0)]) (st' := [vI p0]) [(.iload_n 1, 1)] ⟨dX1_seeks_54, rfl⟩ rfl ?_
                refine t_if_eq C 36 58 dX1_seeks_55 rfl rfl (fun hc15 => ?_) (fun hc15 => ?_)
                · exact kx11 ⟨hc13, ⟨hc14, (Or.inl hc15)⟩⟩
                · refine t_b C (pc' := 59) (L' := [(0, vA (some o)), (1, vI p0)]) (st' := [vA (some o)]) [(.aload_n 0, 1)] ⟨dX1_seeks_58, rfl⟩ rfl ?_
                  refine t_gI C 240 62 dX1_seeks_59 rfl rfl rfl q2228 (fun _ _ _ => rfl) ?_
                  refine t_if_le C 36 65 dX1_seeks_62 rfl rfl (fun hc16 => ?_) (fun hc16 => ?_)
                  · exact kx11 ⟨hc13, ⟨hc14, (Or.inr hc16)⟩⟩
                  · exact ky12 (fun h0 => (fun h0 => (fun h0 => h0.elim hc15 hc16) h0.2) h0.2)
        exact key7 n7 () T6 hI7
      · replace hw := hw.2 hc3
        refine t_b C (pc' := 9) (L' := [(0, vA (some o)), (1, vI p0), (2, vI s1)]) (st' := [vA (some o)]) [(.aload_n 0, 1)] ⟨dX1_seeks_8, rfl⟩ rfl ?_
        refine t_gA C 236 16 12 dX1_seeks_9 rfl rfl rfl rfl rfl q2224 (fun _ _ _ => rfl) ?_
        refine t_b C (pc' := 14) (L' := [(0, vA (some o)), (1, vI p0), (2, vI s1)]) (st' := [vI 0, vI s1, vA (some (o + 1 + 16))]) [(.iload_n 2, 1), (.iconst 0, 1)] ⟨dX1_seeks_12, dX1_seeks_13, rfl⟩ rfl ?_
        refine t_iast C 15 dX1_seeks_14 rfl hw.1 (fun T17 eT17 => ?_)
        replace hw := hw.2 T17 eT17
        refine t_b C (pc' := 18) (L' := [(2, vI (s1 + 1)), (0, vA (some o)), (1, vI p0)]) (st' := []) [(.iinc 2 1, 3)] ⟨dX1_seeks_15, rfl⟩ rfl ?_
        refine t_goto C 2 dX1_seeks_18 rfl ?_
        refine t_sub C (L' := [(0, vA (some o)), (1, vI p0), (2, vI (s1 + 1))]) [1, 2, 0] rfl ?_
        obtain ⟨m9, hm9, hw⟩ := hw
        exact ih1 m9 hm9 (s1 + 1) T17 hw
  exact key1 n1 0 T hI1
def wp_X1_real (p0 : Int32) (T : TS) (Q : Int32 → TS → Prop) : Prop :=
  wp_X1_isFrom p0 0 3 T fun r2 T1 =>
  ((r2 = 0 →
  wp_X1_refuse 1 T1 fun r33 T32 =>
  Q r33 T32) ∧ (¬ r2 = 0 →
  (((T1.s 209) = 0 →
  wp_X1_refuse 2 T1 fun r31 T30 =>
  Q r31 T30) ∧ (¬ (T1.s 209) = 0 →
  wp_X1_seeks 1 T1 fun T5 =>
  (((T5.s 241) = 0 →
  ((p0 = 0 →
  ∀ m23 : Int32, m23 = (if (T5.s 240) ≤ 0 then 0 else 1) →
  wp_X1_gives m23 T5 fun r26 T25 =>
  Q r26 T25) ∧ (¬ p0 = 0 →
  ((p0 = 1 →
  (((T5.s 240) ≤ 0 →
  wp_X1_refuse 7 T5 fun r20 T19 =>
  Q r20 T19) ∧ (¬ (T5.s 240) ≤ 0 →
  wp_X1_gives (T5.s 240) T5 fun r22 T21 =>
  Q r22 T21))) ∧ (¬ p0 = 1 →
  ((p0 = 2 →
  wp_X1_gives (T5.s 239) T5 fun r17 T16 =>
  Q r17 T16) ∧ (¬ p0 = 2 →
  tlp (σ := Int32 × Int32) (fun s11 T12 k11 =>
  ((8 ≤ s11.2 →
  wp_X1_gives (s11.1) T12 fun r15 T14 =>
  Q r15 T14) ∧ (¬ 8 ≤ s11.2 →
  tix 16 40 s11.2 ∧
  k11 ((s11.1 + (T12.a 16 (ni s11.2))), (s11.2 + 1)) T12))) (0, 0) T5))))))) ∧ (¬ (T5.s 241) = 0 →
  wp_X1_refuse 6 T5 fun r29 T28 =>
  Q r29 T28))))))
theorem hd_X1_real : yX1_real.cls = RX1 ∧ yX1_real.cls ≠ "java/lang/invoke/MethodHandle" ∧ yX1_real.cls ≠ "java/lang/invoke/VarHandle" ∧ (parseMethodDescriptor yX1_real.desc).map (fun d => d.parameters.length) = some 1 := by decide +kernel
theorem ok_X1_real {l : Launch} {D : va_G} {s0 : S0} (hG : G0 D s0) {o : Nat} {p0 : Int32} {T : TS} {Q : Int32 → TS → Prop} (hw : wp_X1_real p0 T Q) : OKt l D s0 o yX1_real cX1_real 4 (some .int) 12 280 [vA (some o), vI p0] T (TI Q) := by
  refine t_met hG rfl rfl (L0 := [(0, vA (some o)), (1, vI p0)]) rfl rfl ?_
  intro h K C
  unfold wp_X1_real at hw
  refine t_b C (pc' := 3) (L' := [(0, vA (some o)), (1, vI p0)]) (st' := [vI 3, vI 0, vI p0]) [(.iload_n 1, 1), (.iconst 0, 1), (.iconst 3, 1)] ⟨dX1_real_0, dX1_real_1, dX1_real_2, rfl⟩ rfl ?_
  refine t_callSI C 6 [vI p0, vI 0, vI 3] [] dX1_real_3 rfl (ok_X1_isFrom hG hw) q2431 q2432 q159 q2433 hd_X1_isFrom ⟨rfl, rfl, rfl⟩ (fun r2 T1 hw => ?_)
  refine t_if_ne C 15 9 dX1_real_6 rfl rfl (fun hc3 => ?_) (fun hc3 => ?_)
  · replace hw := hw.2 hc3
    refine t_b C (pc' := 16) (L' := [(0, vA (some o)), (1, vI p0)]) (st' := [vA (some o)]) [(.aload_n 0, 1)] ⟨dX1_real_15, rfl⟩ rfl ?_
    refine t_gI C 209 19 dX1_real_16 rfl rfl rfl q2197 (fun _ _ _ => rfl) ?_
    refine t_if_ne C 28 22 dX1_real_19 rfl rfl (fun hc4 => ?_) (fun hc4 => ?_)
    · replace hw := hw.2 hc4
      refine t_b C (pc' := 30) (L' := [(0, vA (some o)), (1, vI p0)]) (st' := [vI 1, vA (some o)]) [(.aload_n 0, 1), (.iconst 1, 1)] ⟨dX1_real_28, dX1_real_29, rfl⟩ rfl ?_
      refine t_callVV C 33 [vI 1] [] dX1_real_30 rfl (ok_X1_seeks hG hw) q2730 q2732 qs124 q159 q2733 hd_X1_seeks ⟨rfl, rfl, rfl⟩ (fun T5 hw => ?_)
      refine t_b C (pc' := 34) (L' := [(0, vA (some o)), (1, vI p0)]) (st' := [vA (some o)]) [(.aload_n 0, 1)] ⟨dX1_real_33, rfl⟩ rfl ?_
      refine t_gI C 241 37 dX1_real_34 rfl rfl rfl q2229 (fun _ _ _ => rfl) ?_
      refine t_if_eq C 47 40 dX1_real_37 rfl rfl (fun hc7 => ?_) (fun hc7 => ?_)
      · replace hw := hw.1 hc7
        refine t_b C (pc' := 48) (L' := [(0, vA (some o)), (1, vI p0)]) (st' := [vI p0]) [(.iload_n 1, 1)] ⟨dX1_real_47, rfl⟩ rfl ?_
        refine t_if_ne C 68 51 dX1_real_48 rfl rfl (fun hc8 => ?_) (fun hc8 => ?_)
        · replace hw := hw.2 hc8
          refine t_b C (pc' := 70) (L' := [(0, vA (some o)), (1, vI p0)]) (st' := [vI 1, vI p0]) [(.iload_n 1, 1), (.iconst 1, 1)] ⟨dX1_real_68, dX1_real_69, rfl⟩ rfl ?_
          refine t_icmp_ne C 98 73 dX1_real_70 rfl rfl (fun hc9 => ?_) (fun hc9 => ?_)
          · replace hw := hw.2 hc9
            refine t_b C (pc' := 100) (L' := [(0, vA (some o)), (1, vI p0)]) (st' := [vI 2, vI p0]) [(.iload_n 1, 1), (.iconst 2, 1)] ⟨dX1_real_98, dX1_real_99, rfl⟩ rfl ?_
            refine t_icmp_ne C 112 103 dX1_real_100 rfl rfl (fun hc10 => ?_) (fun hc10 => ?_)
            · replace hw := hw.2 hc10
              refine t_b C (pc' := 116) (L' := [(3, vI 0), (2, vI 0), (0, vA (some o)), (1, vI p0)]) (st' := []) [(.iconst 0, 1), (.istore_n 2, 1), (.iconst 0, 1), (.istore_n 3, 1)] ⟨dX1_real_112, dX1_real_113, dX1_real_114, dX1_real_115, rfl⟩ rfl ?_
              obtain ⟨I11, ⟨n11, hI11⟩, hB11⟩ := tlp.out hw
              refine t_sub C (L' := [(0, vA (some o)), (2, vI 0), (3, vI 0)]) [2, 1, 0] rfl ?_
              have key11 : ∀ (n : Nat) (s11 : Int32 × Int32) (T12 : TS), I11 n s11 T12 → K 116 [(0, vA (some o)), (2, vI (s11.1)), (3, vI (s11.2))] [] T12 := by
                intro n
                induction n using Nat.strongRecOn with
                | ind n ih11 =>
                  intro s11 T12 hI
                  replace hw := hB11 n s11 T12 hI
                  refine t_b C (pc' := 119) (L' := [(0, vA (some o)), (2, vI (s11.1)), (3, vI (s11.2))]) (st' := [vI 8, vI (s11.2)]) [(.iload_n 3, 1), (.bipush 8, 2)] ⟨dX1_real_116, dX1_real_117, rfl⟩ rfl ?_
                  refine t_icmp_ge C 137 122 dX1_real_119 rfl rfl (fun hc13 => ?_) (fun hc13 => ?_)
                  · replace hw := hw.1 hc13
                    refine t_b C (pc' := 139) (L' := [(0, vA (some o)), (2, vI (s11.1)), (3, vI (s11.2))]) (st' := [vI (s11.1), vA (some o)]) [(.aload_n 0, 1), (.iload_n 2, 1)] ⟨dX1_real_137, dX1_real_138, rfl⟩ rfl ?_
                    refine t_callVI C 142 [vI (s11.1)] [] dX1_real_139 rfl (ok_X1_gives hG hw) q2589 q2591 qs100 q159 q2592 hd_X1_gives ⟨rfl, rfl, rfl⟩ (fun r15 T14 hw => ?_)
                    exact t_iret C dX1_real_142 ⟨_, rfl, hw⟩
                  · replace hw := hw.2 hc13
                    refine t_b C (pc' := 124) (L' := [(0, vA (some o)), (2, vI (s11.1)), (3, vI (s11.2))]) (st' := [vA (some o), vI (s11.1)]) [(.iload_n 2, 1), (.aload_n 0, 1)] ⟨dX1_real_122, dX1_real_123, rfl⟩ rfl ?_
                    refine t_gA C 236 16 127 dX1_real_124 rfl rfl rfl rfl rfl q2224 (fun _ _ _ => rfl) ?_
                    refine t_b C (pc' := 128) (L' := [(0, vA (some o)), (2, vI (s11.1)), (3, vI (s11.2))]) (st' := [vI (s11.2), vA (some (o + 1 + 16)), vI (s11.1)]) [(.iload_n 3, 1)] ⟨dX1_real_127, rfl⟩ rfl ?_
                    refine t_iald C 129 dX1_real_128 rfl hw.1 ?_
                    replace hw := hw.2
                    refine t_b C (pc' := 134) (L' := [(3, vI (s11.2 + 1)), (2, vI (s11.1 + (T12.a 16 (ni s11.2)))), (0, vA (some o))]) (st' := []) [(.iadd, 1), (.istore_n 2, 1), (.iinc 3 1, 3)] ⟨dX1_real_129, dX1_real_130, dX1_real_131, rfl⟩ rfl ?_
                    refine t_goto C 116 dX1_real_134 rfl ?_
                    refine t_sub C (L' := [(0, vA (some o)), (2, vI (s11.1 + (T12.a 16 (ni s11.2)))), (3, vI (s11.2 + 1))]) [2, 1, 0] rfl ?_
                    obtain ⟨m9, hm9, hw⟩ := hw
                    exact ih11 m9 hm9 ((s11.1 + (T12.a 16 (ni s11.2))), (s11.2 + 1)) T12 hw
              exact key11 n11 (0, 0) T5 hI11
            · replace hw := hw.1 hc10
              refine t_b C (pc' := 105) (L' := [(0, vA (some o)), (1, vI p0)]) (st' := [vA (some o), vA (some o)]) [(.aload_n 0, 1), (.aload_n 0, 1)] ⟨dX1_real_103, dX1_real_104, rfl⟩ rfl ?_
              refine t_gI C 239 108 dX1_real_105 rfl rfl rfl q2227 (fun _ _ _ => rfl) ?_
              refine t_callVI C 111 [vI (T5.s 239)] [] dX1_real_108 rfl (ok_X1_gives hG hw) q2589 q2591 qs100 q159 q2592 hd_X1_gives ⟨rfl, rfl, rfl⟩ (fun r17 T16 hw => ?_)
              exact t_iret C dX1_real_111 ⟨_, rfl, hw⟩
          · replace hw := hw.1 hc9
            refine t_b C (pc' := 74) (L' := [(0, vA (some o)), (1, vI p0)]) (st' := [vA (some o)]) [(.aload_n 0, 1)] ⟨dX1_real_73, rfl⟩ rfl ?_
            refine t_gI C 240 77 dX1_real_74 rfl rfl rfl q2228 (fun _ _ _ => rfl) ?_
            refine t_if_le C 91 80 dX1_real_77 rfl rfl (fun hc18 => ?_) (fun hc18 => ?_)
            · replace hw := hw.1 hc18
              refine t_b C (pc' := 94) (L' := [(0, vA (some o)), (1, vI p0)]) (st' := [vI 7, vA (some o)]) [(.aload_n 0, 1), (.bipush 7, 2)] ⟨dX1_real_91, dX1_real_92, rfl⟩ rfl ?_
              refine t_callVI C 97 [vI 7] [] dX1_real_94 rfl (ok_X1_refuse hG hw) q2434 q2436 qs70 q159 q2437 hd_X1_refuse ⟨rfl, rfl, rfl⟩ (fun r20 T19 hw => ?_)
              exact t_iret C dX1_real_97 ⟨_, rfl, hw⟩
            · replace hw := hw.2 hc18
              refine t_b C (pc' := 82) (L' := [(0, vA (some o)), (1, vI p0)]) (st' := [vA (some o), vA (some o)]) [(.aload_n 0, 1), (.aload_n 0, 1)] ⟨dX1_real_80, dX1_real_81, rfl⟩ rfl ?_
              refine t_gI C 240 85 dX1_real_82 rfl rfl rfl q2228 (fun _ _ _ => rfl) ?_
              refine t_callVI C 88 [vI (T5.s 240)] [] dX1_real_85 rfl (ok_X1_gives hG hw) q2589 q2591 qs100 q159 q2592 hd_X1_gives ⟨rfl, rfl, rfl⟩ (fun r22 T21 hw => ?_)
              refine t_goto C 97 dX1_real_88 rfl ?_
              exact t_iret C dX1_real_97 ⟨_, rfl, hw⟩
        · replace hw := hw.1 hc8
          refine t_b C (pc' := 53) (L' := [(0, vA (some o)), (1, vI p0)]) (st' := [vA (some o), vA (some o)]) [(.aload_n 0, 1), (.aload_n 0, 1)] ⟨dX1_real_51, dX1_real_52, rfl⟩ rfl ?_
          refine t_gI C 240 56 dX1_real_53 rfl rfl rfl q2228 (fun _ _ _ => rfl) ?_
          have kj24 : ∀ (m23 : Int32), m23 = (if (T5.s 240) ≤ 0 then 0 else 1) → K 64 [] [vI m23, vA (some o)] T5 := by
            intro m23 em23
            replace hw := hw m23 em23
            refine t_callVI C 67 [vI m23] [] dX1_real_64 rfl (ok_X1_gives hG hw) q2589 q2591 qs100 q159 q2592 hd_X1_gives ⟨rfl, rfl, rfl⟩ (fun r26 T25 hw => ?_)
            exact t_iret C dX1_real_67 ⟨_, rfl, hw⟩
          refine t_if_le C 63 59 dX1_real_56 rfl rfl (fun hc27 => ?_) (fun hc27 => ?_)
          · refine t_b C (pc' := 64) (L' := [(0, vA (some o)), (1, vI p0)]) (st' := [vI 0, vA (some o)]) [(.iconst 0, 1)] ⟨dX1_real_63, rfl⟩ rfl ?_
            refine t_sub C (L' := []) [] rfl ?_
            exact kj24 _ ((if_pos hc27).symm)
          · refine t_b C (pc' := 60) (L' := [(0, vA (some o)), (1, vI p0)]) (st' := [vI 1, vA (some o)]) [(.iconst 1, 1)] ⟨dX1_real_59, rfl⟩ rfl ?_
            refine t_goto C 64 dX1_real_60 rfl ?_
            refine t_sub C (L' := []) [] rfl ?_
            exact kj24 _ ((if_neg hc27).symm)
      · replace hw := hw.2 hc7
        refine t_b C (pc' := 43) (L' := [(0, vA (some o)), (1, vI p0)]) (st' := [vI 6, vA (some o)]) [(.aload_n 0, 1), (.bipush 6, 2)] ⟨dX1_real_40, dX1_real_41, rfl⟩ rfl ?_
        refine t_callVI C 46 [vI 6] [] dX1_real_43 rfl (ok_X1_refuse hG hw) q2434 q2436 qs70 q159 q2437 hd_X1_refuse ⟨rfl, rfl, rfl⟩ (fun r29 T28 hw => ?_)
        exact t_iret C dX1_real_46 ⟨_, rfl, hw⟩
    · replace hw := hw.1 hc4
      refine t_b C (pc' := 24) (L' := [(0, vA (some o)), (1, vI p0)]) (st' := [vI 2, vA (some o)]) [(.aload_n 0, 1), (.iconst 2, 1)] ⟨dX1_real_22, dX1_real_23, rfl⟩ rfl ?_
      refine t_callVI C 27 [vI 2] [] dX1_real_24 rfl (ok_X1_refuse hG hw) q2434 q2436 qs70 q159 q2437 hd_X1_refuse ⟨rfl, rfl, rfl⟩ (fun r31 T30 hw => ?_)
      exact t_iret C dX1_real_27 ⟨_, rfl, hw⟩
  · replace hw := hw.1 hc3
    refine t_b C (pc' := 11) (L' := [(0, vA (some o)), (1, vI p0)]) (st' := [vI 1, vA (some o)]) [(.aload_n 0, 1), (.iconst 1, 1)] ⟨dX1_real_9, dX1_real_10, rfl⟩ rfl ?_
    refine t_callVI C 14 [vI 1] [] dX1_real_11 rfl (ok_X1_refuse hG hw) q2434 q2436 qs70 q159 q2437 hd_X1_refuse ⟨rfl, rfl, rfl⟩ (fun r33 T32 hw => ?_)
    exact t_iret C dX1_real_14 ⟨_, rfl, hw⟩
def wp_X1_run (p0 : Int32) (T : TS) (Q : Int32 → TS → Prop) : Prop :=
  wp_X1_isFrom p0 0 1 T fun r2 T1 =>
  ((r2 = 0 →
  wp_X1_refuse 1 T1 fun r43 T42 =>
  Q r43 T42) ∧ (¬ r2 = 0 →
  wp_X1_hasTree  T1 fun r5 T4 =>
  ((r5 = 0 →
  wp_X1_refuse 3 T4 fun r41 T40 =>
  Q r41 T40) ∧ (¬ r5 = 0 →
  wp_X1_block  T4 fun r8 T7 =>
  ((r8 = (-1) →
  wp_X1_laysAllVisits  T7 fun T10 =>
  tlp (σ := Int32 × Int32) (fun s12 T13 k12 =>
  (((T13.s 250) ≤ s12.2 →
  wp_X1_gives (s12.1) T13 fun r16 T15 =>
  Q r16 T15) ∧ (¬ (T13.s 250) ≤ s12.2 →
  tjn (α := Int32) (fun J18 =>
  ((p0 = 0 →
  wp_X1_symbolOf (s12.2) T13 fun r21 T20 =>
  tix 12 40 r21 ∧
  J18 (T20.a 12 (ni r21)) T20) ∧ (¬ p0 = 0 →
  J18 0 T13))) (fun x22 T23 =>
  tlp (σ := Int32 × Int32) (fun s24 T25 k24 =>
  (((¬ (32 ≤ s24.2) ∧ (p0 = 1)) →
  tix 19 40 s12.2 ∧
  wp_X1_isOcc (T25.a 19 (ni s12.2)) (s24.2) T25 fun r29 T28 =>
  ((r29 = 0 →
  k24 ((s24.1 + 0), (s24.2 + 1)) T28) ∧ (¬ r29 = 0 →
  tix 19 40 s12.2 ∧
  wp_X1_canTell 1 (T28.a 19 (ni s12.2)) (s24.2) T28 fun r32 T31 =>
  ∀ m33 : Int32, m33 = (if r32 = 0 then 0 else 1) →
  k24 ((s24.1 + m33), (s24.2 + 1)) T31))) ∧ (¬ (¬ (32 ≤ s24.2) ∧ (p0 = 1)) →
  k12 (s24.1, (s12.2 + 1)) T25))) ((s12.1 + x22), 0) T23)))) (0, 0) T10) ∧ (¬ r8 = (-1) →
  wp_X1_refuse 5 T7 fun r39 T38 =>
  Q r39 T38))))))
theorem hd_X1_run : yX1_run.cls = RX1 ∧ yX1_run.cls ≠ "java/lang/invoke/MethodHandle" ∧ yX1_run.cls ≠ "java/lang/invoke/VarHandle" ∧ (parseMethodDescriptor yX1_run.desc).map (fun d => d.parameters.length) = some 1 := by decide +kernel
theorem ok_X1_run {l : Launch} {D : va_G} {s0 : S0} (hG : G0 D s0) {o : Nat} {p0 : Int32} {T : TS} {Q : Int32 → TS → Prop} (hw : wp_X1_run p0 T Q) : OKt l D s0 o yX1_run cX1_run 5 (some .int) 9 202 [vA (some o), vI p0] T (TI Q) := by
  refine t_met hG rfl rfl (L0 := [(0, vA (some o)), (1, vI p0)]) rfl rfl ?_
  intro h K C
  unfold wp_X1_run at hw
  refine t_b C (pc' := 3) (L' := [(0, vA (some o)), (1, vI p0)]) (st' := [vI 1, vI 0, vI p0]) [(.iload_n 1, 1), (.iconst 0, 1), (.iconst 1, 1)] ⟨dX1_run_0, dX1_run_1, dX1_run_2, rfl⟩ rfl ?_
  refine t_callSI C 6 [vI p0, vI 0, vI 1] [] dX1_run_3 rfl (ok_X1_isFrom hG hw) q2431 q2432 q159 q2433 hd_X1_isFrom ⟨rfl, rfl, rfl⟩ (fun r2 T1 hw => ?_)
  refine t_if_ne C 15 9 dX1_run_6 rfl rfl (fun hc3 => ?_) (fun hc3 => ?_)
  · replace hw := hw.2 hc3
    refine t_b C (pc' := 16) (L' := [(0, vA (some o)), (1, vI p0)]) (st' := [vA (some o)]) [(.aload_n 0, 1)] ⟨dX1_run_15, rfl⟩ rfl ?_
    refine t_callVI C 19 [] [] dX1_run_16 rfl (ok_X1_hasTree hG hw) q2849 q2851 qs148 q159 q2852 hd_X1_hasTree ⟨rfl, rfl, rfl⟩ (fun r5 T4 hw => ?_)
    refine t_if_ne C 28 22 dX1_run_19 rfl rfl (fun hc6 => ?_) (fun hc6 => ?_)
    · replace hw := hw.2 hc6
      refine t_b C (pc' := 29) (L' := [(0, vA (some o)), (1, vI p0)]) (st' := [vA (some o)]) [(.aload_n 0, 1)] ⟨dX1_run_28, rfl⟩ rfl ?_
      refine t_callVI C 32 [] [] dX1_run_29 rfl (ok_X1_block hG hw) q2694 q2696 qs117 q159 q2697 hd_X1_block ⟨rfl, rfl, rfl⟩ (fun r8 T7 hw => ?_)
      refine t_b C (pc' := 33) (L' := [(0, vA (some o)), (1, vI p0)]) (st' := [vI (-1), vI r8]) [(.iconst (-1), 1)] ⟨dX1_run_32, rfl⟩ rfl ?_
      refine t_icmp_eq C 42 36 dX1_run_33 rfl rfl (fun hc9 => ?_) (fun hc9 => ?_)
      · replace hw := hw.1 hc9
        refine t_b C (pc' := 43) (L' := [(0, vA (some o)), (1, vI p0)]) (st' := [vA (some o)]) [(.aload_n 0, 1)] ⟨dX1_run_42, rfl⟩ rfl ?_
        refine t_callVV C 46 [] [] dX1_run_43 rfl (ok_X1_laysAllVisits hG hw) q2657 q2659 qs112 q159 q2660 hd_X1_laysAllVisits ⟨rfl, rfl, rfl⟩ (fun T10 hw => ?_)
        refine t_b C (pc' := 50) (L' := [(3, vI 0), (2, vI 0), (0, vA (some o)), (1, vI p0)]) (st' := []) [(.iconst 0, 1), (.istore_n 2, 1), (.iconst 0, 1), (.istore_n 3, 1)] ⟨dX1_run_46, dX1_run_47, dX1_run_48, dX1_run_49, rfl⟩ rfl ?_
        obtain ⟨I12, ⟨n12, hI12⟩, hB12⟩ := tlp.out hw
        refine t_sub C (L' := [(0, vA (some o)), (1, vI p0), (2, vI 0), (3, vI 0)]) [2, 3, 1, 0] rfl ?_
        have key12 : ∀ (n : Nat) (s12 : Int32 × Int32) (T13 : TS), I12 n s12 T13 → K 50 [(0, vA (some o)), (1, vI p0), (2, vI (s12.1)), (3, vI (s12.2))] [] T13 := by
          intro n
          induction n using Nat.strongRecOn with
          | ind n ih12 =>
            intro s12 T13 hI
            replace hw := hB12 n s12 T13 hI
            refine t_b C (pc' := 52) (L' := [(0, vA (some o)), (1, vI p0), (2, vI (s12.1)), (3, vI (s12.2))]) (st' := [vA (some o), vI (s12.2)]) [(.iload_n 3, 1), (.aload_n 0, 1)] ⟨dX1_run_50, dX1_run_51, rfl⟩ rfl ?_
            refine t_gI C 250 55 dX1_run_52 rfl rfl rfl q2238 (fun _ _ _ => rfl) ?_
            refine t_icmp_ge C 147 58 dX1_run_55 rfl rfl (fun hc14 => ?_) (fun hc14 => ?_)
            · replace hw := hw.1 hc14
              refine t_b C (pc' := 149) (L' := [(0, vA (some o)), (1, vI p0), (2, vI (s12.1)), (3, vI (s12.2))]) (st' := [vI (s12.1), vA (some o)]) [(.aload_n 0, 1), (.iload_n 2, 1)] ⟨dX1_run_147, dX1_run_148, rfl⟩ rfl ?_
              refine t_callVI C 152 [vI (s12.1)] [] dX1_run_149 rfl (ok_X1_gives hG hw) q2589 q2591 qs100 q159 q2592 hd_X1_gives ⟨rfl, rfl, rfl⟩ (fun r16 T15 hw => ?_)
              exact t_iret C dX1_run_152 ⟨_, rfl, hw⟩
            · replace hw := hw.2 hc14
              refine t_b C (pc' := 60) (L' := [(0, vA (some o)), (1, vI p0), (2, vI (s12.1)), (3, vI (s12.2))]) (st' := [vI p0, vI (s12.1)]) [(.iload_n 2, 1), (.iload_n 1, 1)] ⟨dX1_run_58, dX1_run_59, rfl⟩ rfl ?_
              obtain ⟨J18, hw, hJ18⟩ := tjn.out hw
              have kj17 : ∀ (x22 : Int32) (T23 : TS), J18 x22 T23 → K 77 [(0, vA (some o)), (1, vI p0), (3, vI (s12.2))] [vI x22, vI (s12.1)] T23 := by
                intro x22 T23 hj
                replace hw := hJ18 x22 T23 hj
                refine t_b C (pc' := 82) (L' := [(4, vI 0), (2, vI (s12.1 + x22)), (0, vA (some o)), (1, vI p0), (3, vI (s12.2))]) (st' := []) [(.iadd, 1), (.istore_n 2, 1), (.iconst 0, 1), (.istore 4, 2)] ⟨dX1_run_77, dX1_run_78, dX1_run_79, dX1_run_80, rfl⟩ rfl ?_
                obtain ⟨I24, ⟨n24, hI24⟩, hB24⟩ := tlp.out hw
                refine t_sub C (L' := [(0, vA (some o)), (1, vI p0), (2, vI (s12.1 + x22)), (3, vI (s12.2)), (4, vI 0)]) [2, 3, 1, 4, 0] rfl ?_
                have key24 : ∀ (n : Nat) (s24 : Int32 × Int32) (T25 : TS), I24 n s24 T25 → K 82 [(0, vA (some o)), (1, vI p0), (2, vI (s24.1)), (3, vI (s12.2)), (4, vI (s24.2))] [] T25 := by
                  intro n
                  induction n using Nat.strongRecOn with
                  | ind n ih24 =>
                    intro s24 T25 hI
                    replace hw := hB24 n s24 T25 hI
                    refine t_b C (pc' := 86) (L' := [(0, vA (some o)), (1, vI p0), (2, vI (s24.1)), (3, vI (s12.2)), (4, vI (s24.2))]) (st' := [vI 32, vI (s24.2)]) [(.iload 4, 2), (.bipush 32, 2)] ⟨dX1_run_82, dX1_run_84, rfl⟩ rfl ?_
                    have kx26 : (¬ (32 ≤ s24.2) ∧ (p0 = 1)) → K 101 [(0, vA (some o)), (1, vI p0), (2, vI (s24.1)), (3, vI (s12.2)), (4, vI (s24.2))] [vI (s12.2), vA (some (o + 1 + 19)), vA (some o), vI (s24.1)] T25 := by
                      intro hcc
                      replace hw := hw.1 hcc
                      refine t_iald C 102 dX1_run_101 rfl hw.1 ?_
                      replace hw := hw.2
                      refine t_b C (pc' := 104) (L' := [(0, vA (some o)), (1, vI p0), (2, vI (s24.1)), (3, vI (s12.2)), (4, vI (s24.2))]) (st' := [vI (s24.2), vI (T25.a 19 (ni s12.2)), vA (some o), vI (s24.1)]) [(.iload 4, 2)] ⟨dX1_run_102, rfl⟩ rfl ?_
                      refine t_callVI C 107 [vI (T25.a 19 (ni s12.2)), vI (s24.2)] [vI (s24.1)] dX1_run_104 rfl (ok_X1_isOcc hG hw) q2641 q2643 qs108 q159 q2644 hd_X1_isOcc ⟨rfl, rfl, rfl⟩ (fun r29 T28 hw => ?_)
                      refine t_if_eq C 132 110 dX1_run_107 rfl rfl (fun hc30 => ?_) (fun hc30 => ?_)
                      · replace hw := hw.1 hc30
                        refine t_b C (pc' := 138) (L' := [(4, vI (s24.2 + 1)), (2, vI (s24.1 + 0)), (0, vA (some o)), (1, vI p0), (3, vI (s12.2))]) (st' := []) [(.iconst 0, 1), (.iadd, 1), (.istore_n 2, 1), (.iinc 4 1, 3)] ⟨dX1_run_132, dX1_run_133, dX1_run_134, dX1_run_135, rfl⟩ rfl ?_
                        refine t_goto C 82 dX1_run_138 rfl ?_
                        refine t_sub C (L' := [(0, vA (some o)), (1, vI p0), (2, vI (s24.1 + 0)), (3, vI (s12.2)), (4, vI (s24.2 + 1))]) [2, 3, 1, 4, 0] rfl ?_
                        obtain ⟨m9, hm9, hw⟩ := hw
                        exact ih24 m9 hm9 ((s24.1 + 0), (s24.2 + 1)) T28 hw
                      · replace hw := hw.2 hc30
                        refine t_b C (pc' := 111) (L' := [(0, vA (some o)), (1, vI p0), (2, vI (s24.1)), (3, vI (s12.2)), (4, vI (s24.2))]) (st' := [vA (some o), vI (s24.1)]) [(.aload_n 0, 1)] ⟨dX1_run_110, rfl⟩ rfl ?_
                        refine t_gA C 201 1 114 dX1_run_111 rfl rfl rfl rfl rfl q2189 (fun _ _ _ => rfl) ?_
                        refine t_b C (pc' := 115) (L' := [(0, vA (some o)), (1, vI p0), (2, vI (s24.1)), (3, vI (s12.2)), (4, vI (s24.2))]) (st' := [vA (some o), vA (some (o + 1 + 1)), vI (s24.1)]) [(.aload_n 0, 1)] ⟨dX1_run_114, rfl⟩ rfl ?_
                        refine t_gA C 243 19 118 dX1_run_115 rfl rfl rfl rfl rfl q2231 (fun _ _ _ => rfl) ?_
                        refine t_b C (pc' := 119) (L' := [(0, vA (some o)), (1, vI p0), (2, vI (s24.1)), (3, vI (s12.2)), (4, vI (s24.2))]) (st' := [vI (s12.2), vA (some (o + 1 + 19)), vA (some (o + 1 + 1)), vI (s24.1)]) [(.iload_n 3, 1)] ⟨dX1_run_118, rfl⟩ rfl ?_
                        refine t_iald C 120 dX1_run_119 rfl hw.1 ?_
                        replace hw := hw.2
                        refine t_b C (pc' := 122) (L' := [(0, vA (some o)), (1, vI p0), (2, vI (s24.1)), (3, vI (s12.2)), (4, vI (s24.2))]) (st' := [vI (s24.2), vI (T28.a 19 (ni s12.2)), vA (some (o + 1 + 1)), vI (s24.1)]) [(.iload 4, 2)] ⟨dX1_run_120, rfl⟩ rfl ?_
                        refine t_callSI C 125 [vA (some (o + 1 + 1)), vI (T28.a 19 (ni s12.2)), vI (s24.2)] [vI (s24.1)] dX1_run_122 rfl (ok_X1_canTell hG hw) q2523 q2524 q159 q2525 hd_X1_canTell ⟨rfl, rfl, rfl⟩ (fun r32 T31 hw => ?_)
                        have kj34 : ∀ (m33 : Int32), m33 = (if r32 = 0 then 0 else 1) → K 133 [(0, vA (some o)), (1, vI p0), (3, vI (s12.2)), (4, vI (s24.2))] [vI m33, vI (s24.1)] T31 := by
                          intro m33 em33
                          replace hw := hw m33 em33
                          refine t_b C (pc' := 138) (L' := [(4, vI (s24.2 + 1)), (2, vI (s24.1 + m33)), (0, vA (some o)), (1, vI p0), (3, vI (s12.2))]) (st' := []) [(.iadd, 1), (.istore_n 2, 1), (.iinc 4 1, 3)] ⟨dX1_run_133, dX1_run_134, dX1_run_135, rfl⟩ rfl ?_
                          refine t_goto C 82 dX1_run_138 rfl ?_
                          refine t_sub C (L' := [(0, vA (some o)), (1, vI p0), (2, vI (s24.1 + m33)), (3, vI (s12.2)), (4, vI (s24.2 + 1))]) [2, 3, 1, 4, 0] rfl ?_
                          obtain ⟨m9, hm9, hw⟩ := hw
                          exact ih24 m9 hm9 ((s24.1 + m33), (s24.2 + 1)) T31 hw
                        refine t_if_eq C 132 128 dX1_run_125 rfl rfl (fun hc35 => ?_) (fun hc35 => ?_)
                        · refine t_b C (pc' := 133) (L' := [(0, vA (some o)), (1, vI p0), (2, vI (s24.1)), (3, vI (s12.2)), (4, vI (s24.2))]) (st' := [vI 0, vI (s24.1)]) [(.iconst 0, 1)] ⟨dX1_run_132, rfl⟩ rfl ?_
                          refine t_sub C (L' := [(0, vA (some o)), (1, vI p0), (3, vI (s12.2)), (4, vI (s24.2))]) [0, 1, 3, 4] rfl ?_
                          exact kj34 _ ((if_pos hc35).symm)
                        · refine t_b C (pc' := 129) (L' := [(0, vA (some o)), (1, vI p0), (2, vI (s24.1)), (3, vI (s12.2)), (4, vI (s24.2))]) (st' := [vI 1, vI (s24.1)]) [(.iconst 1, 1)] ⟨dX1_run_128, rfl⟩ rfl ?_
                          refine t_goto C 133 dX1_run_129 rfl ?_
                          refine t_sub C (L' := [(0, vA (some o)), (1, vI p0), (3, vI (s12.2)), (4, vI (s24.2))]) [0, 1, 3, 4] rfl ?_
                          exact kj34 _ ((if_neg hc35).symm)
                    have ky27 : ¬ (¬ (32 ≤ s24.2) ∧ (p0 = 1)) → K 141 [(0, vA (some o)), (1, vI p0), (2, vI (s24.1)), (3, vI (s12.2)), (4, vI (s24.2))] [] T25 := by
                      intro hcc
                      replace hw := hw.2 hcc
                      refine t_b C (pc' := 144) (L' := [(3, vI (s12.2 + 1)), (0, vA (some o)), (1, vI p0), (2, vI (s24.1)), (4, vI (s24.2))]) (st' := []) [(.iinc 3 1, 3)] ⟨dX1_run_141, rfl⟩ rfl ?_
                      refine t_goto C 50 dX1_run_144 rfl ?_
                      refine t_sub C (L' := [(0, vA (some o)), (1, vI p0), (2, vI (s24.1)), (3, vI (s12.2 + 1))]) [1, 2, 3, 0] rfl ?_
                      obtain ⟨m9, hm9, hw⟩ := hw
                      exact ih12 m9 hm9 (s24.1, (s12.2 + 1)) T25 hw
                    refine t_icmp_ge C 141 89 dX1_run_86 rfl rfl (fun hc36 => ?_) (fun hc36 => ?_)
                    · exact ky27 (fun h0 => (fun h0 => h0 hc36) h0.1)
                    · refine t_b C (pc' := 91) (L' := [(0, vA (some o)), (1, vI p0), (2, vI (s24.1)), (3, vI (s12.2)), (4, vI (s24.2))]) (st' := [vI 1, vI p0]) [(.iload_n 1, 1), (.iconst 1, 1)] ⟨dX1_run_89, dX1_run_90, rfl⟩ rfl ?_
                      refine t_icmp_ne C 141 94 dX1_run_91 rfl rfl (fun hc37 => ?_) (fun hc37 => ?_)
                      · exact ky27 (fun h0 => hc37 h0.2)
                      · refine t_b C (pc' := 97) (L' := [(0, vA (some o)), (1, vI p0), (2, vI (s24.1)), (3, vI (s12.2)), (4, vI (s24.2))]) (st' := [vA (some o), vA (some o), vI (s24.1)]) [(.iload_n 2, 1), (.aload_n 0, 1), (.aload_n 0, 1)] ⟨dX1_run_94, dX1_run_95, dX1_run_96, rfl⟩ rfl ?_
                        refine t_gA C 243 19 100 dX1_run_97 rfl rfl rfl rfl rfl q2231 (fun _ _ _ => rfl) ?_
                        refine t_b C (pc' := 101) (L' := [(0, vA (some o)), (1, vI p0), (2, vI (s24.1)), (3, vI (s12.2)), (4, vI (s24.2))]) (st' := [vI (s12.2), vA (some (o + 1 + 19)), vA (some o), vI (s24.1)]) [(.iload_n 3, 1)] ⟨dX1_run_100, rfl⟩ rfl ?_
                        exact kx26 ⟨hc36, hc37⟩
                exact key24 n24 ((s12.1 + x22), 0) T23 hI24
              refine t_if_ne C 76 63 dX1_run_60 rfl rfl (fun hc19 => ?_) (fun hc19 => ?_)
              · replace hw := hw.2 hc19
                refine t_b C (pc' := 77) (L' := [(0, vA (some o)), (1, vI p0), (2, vI (s12.1)), (3, vI (s12.2))]) (st' := [vI 0, vI (s12.1)]) [(.iconst 0, 1)] ⟨dX1_run_76, rfl⟩ rfl ?_
                refine t_sub C (L' := [(0, vA (some o)), (1, vI p0), (3, vI (s12.2))]) [0, 1, 3] rfl ?_
                exact kj17 0 T13 hw
              · replace hw := hw.1 hc19
                refine t_b C (pc' := 64) (L' := [(0, vA (some o)), (1, vI p0), (2, vI (s12.1)), (3, vI (s12.2))]) (st' := [vA (some o), vI (s12.1)]) [(.aload_n 0, 1)] ⟨dX1_run_63, rfl⟩ rfl ?_
                refine t_gA C 230 12 67 dX1_run_64 rfl rfl rfl rfl rfl q2218 (fun _ _ _ => rfl) ?_
                refine t_b C (pc' := 69) (L' := [(0, vA (some o)), (1, vI p0), (2, vI (s12.1)), (3, vI (s12.2))]) (st' := [vI (s12.2), vA (some o), vA (some (o + 1 + 12)), vI (s12.1)]) [(.aload_n 0, 1), (.iload_n 3, 1)] ⟨dX1_run_67, dX1_run_68, rfl⟩ rfl ?_
                refine t_callVI C 72 [vI (s12.2)] [vA (some (o + 1 + 12)), vI (s12.1)] dX1_run_69 rfl (ok_X1_symbolOf hG hw) q2782 q2784 qs135 q159 q2785 hd_X1_symbolOf ⟨rfl, rfl, rfl⟩ (fun r21 T20 hw => ?_)
                refine t_iald C 73 dX1_run_72 rfl hw.1 ?_
                replace hw := hw.2
                refine t_goto C 77 dX1_run_73 rfl ?_
                refine t_sub C (L' := [(0, vA (some o)), (1, vI p0), (3, vI (s12.2))]) [0, 1, 3] rfl ?_
                exact kj17 (T20.a 12 (ni r21)) T20 hw
        exact key12 n12 (0, 0) T10 hI12
      · replace hw := hw.2 hc9
        refine t_b C (pc' := 38) (L' := [(0, vA (some o)), (1, vI p0)]) (st' := [vI 5, vA (some o)]) [(.aload_n 0, 1), (.iconst 5, 1)] ⟨dX1_run_36, dX1_run_37, rfl⟩ rfl ?_
        refine t_callVI C 41 [vI 5] [] dX1_run_38 rfl (ok_X1_refuse hG hw) q2434 q2436 qs70 q159 q2437 hd_X1_refuse ⟨rfl, rfl, rfl⟩ (fun r39 T38 hw => ?_)
        exact t_iret C dX1_run_41 ⟨_, rfl, hw⟩
    · replace hw := hw.1 hc6
      refine t_b C (pc' := 24) (L' := [(0, vA (some o)), (1, vI p0)]) (st' := [vI 3, vA (some o)]) [(.aload_n 0, 1), (.iconst 3, 1)] ⟨dX1_run_22, dX1_run_23, rfl⟩ rfl ?_
      refine t_callVI C 27 [vI 3] [] dX1_run_24 rfl (ok_X1_refuse hG hw) q2434 q2436 qs70 q159 q2437 hd_X1_refuse ⟨rfl, rfl, rfl⟩ (fun r41 T40 hw => ?_)
      exact t_iret C dX1_run_27 ⟨_, rfl, hw⟩
  · replace hw := hw.1 hc3
    refine t_b C (pc' := 11) (L' := [(0, vA (some o)), (1, vI p0)]) (st' := [vI 1, vA (some o)]) [(.aload_n 0, 1), (.iconst 1, 1)] ⟨dX1_run_9, dX1_run_10, rfl⟩ rfl ?_
    refine t_callVI C 14 [vI 1] [] dX1_run_11 rfl (ok_X1_refuse hG hw) q2434 q2436 qs70 q159 q2437 hd_X1_refuse ⟨rfl, rfl, rfl⟩ (fun r43 T42 hw => ?_)
    exact t_iret C dX1_run_14 ⟨_, rfl, hw⟩
def wp_X1_shades (p0 : Int32) (T : TS) (Q : Int32 → TS → Prop) : Prop :=
  wp_X1_isSymbol p0 T fun r2 T1 =>
  ((r2 = 0 →
  wp_X1_refuse 4 T1 fun r12 T11 =>
  Q r12 T11) ∧ (¬ r2 = 0 →
  wp_X1_seeks 0 T1 fun T4 =>
  (((T4.s 241) = 0 →
  tix 16 40 p0 ∧
  wp_X1_gives (T4.a 16 (ni p0)) T4 fun r8 T7 =>
  Q r8 T7) ∧ (¬ (T4.s 241) = 0 →
  wp_X1_refuse 6 T4 fun r10 T9 =>
  Q r10 T9))))
theorem hd_X1_shades : yX1_shades.cls = RX1 ∧ yX1_shades.cls ≠ "java/lang/invoke/MethodHandle" ∧ yX1_shades.cls ≠ "java/lang/invoke/VarHandle" ∧ (parseMethodDescriptor yX1_shades.desc).map (fun d => d.parameters.length) = some 1 := by decide +kernel
theorem ok_X1_shades {l : Launch} {D : va_G} {s0 : S0} (hG : G0 D s0) {o : Nat} {p0 : Int32} {T : TS} {Q : Int32 → TS → Prop} (hw : wp_X1_shades p0 T Q) : OKt l D s0 o yX1_shades cX1_shades 2 (some .int) 12 280 [vA (some o), vI p0] T (TI Q) := by
  refine t_met hG rfl rfl (L0 := [(0, vA (some o)), (1, vI p0)]) rfl rfl ?_
  intro h K C
  unfold wp_X1_shades at hw
  refine t_b C (pc' := 2) (L' := [(0, vA (some o)), (1, vI p0)]) (st' := [vI p0, vA (some o)]) [(.aload_n 0, 1), (.iload_n 1, 1)] ⟨dX1_shades_0, dX1_shades_1, rfl⟩ rfl ?_
  refine t_callVI C 5 [vI p0] [] dX1_shades_2 rfl (ok_X1_isSymbol hG hw) q2609 q2611 qs102 q159 q2612 hd_X1_isSymbol ⟨rfl, rfl, rfl⟩ (fun r2 T1 hw => ?_)
  refine t_if_ne C 14 8 dX1_shades_5 rfl rfl (fun hc3 => ?_) (fun hc3 => ?_)
  · replace hw := hw.2 hc3
    refine t_b C (pc' := 16) (L' := [(0, vA (some o)), (1, vI p0)]) (st' := [vI 0, vA (some o)]) [(.aload_n 0, 1), (.iconst 0, 1)] ⟨dX1_shades_14, dX1_shades_15, rfl⟩ rfl ?_
    refine t_callVV C 19 [vI 0] [] dX1_shades_16 rfl (ok_X1_seeks hG hw) q2730 q2732 qs124 q159 q2733 hd_X1_seeks ⟨rfl, rfl, rfl⟩ (fun T4 hw => ?_)
    refine t_b C (pc' := 20) (L' := [(0, vA (some o)), (1, vI p0)]) (st' := [vA (some o)]) [(.aload_n 0, 1)] ⟨dX1_shades_19, rfl⟩ rfl ?_
    refine t_gI C 241 23 dX1_shades_20 rfl rfl rfl q2229 (fun _ _ _ => rfl) ?_
    refine t_if_eq C 35 26 dX1_shades_23 rfl rfl (fun hc6 => ?_) (fun hc6 => ?_)
    · replace hw := hw.1 hc6
      refine t_b C (pc' := 37) (L' := [(0, vA (some o)), (1, vI p0)]) (st' := [vA (some o), vA (some o)]) [(.aload_n 0, 1), (.aload_n 0, 1)] ⟨dX1_shades_35, dX1_shades_36, rfl⟩ rfl ?_
      refine t_gA C 236 16 40 dX1_shades_37 rfl rfl rfl rfl rfl q2224 (fun _ _ _ => rfl) ?_
      refine t_b C (pc' := 41) (L' := [(0, vA (some o)), (1, vI p0)]) (st' := [vI p0, vA (some (o + 1 + 16)), vA (some o)]) [(.iload_n 1, 1)] ⟨dX1_shades_40, rfl⟩ rfl ?_
      refine t_iald C 42 dX1_shades_41 rfl hw.1 ?_
      replace hw := hw.2
      refine t_callVI C 45 [vI (T4.a 16 (ni p0))] [] dX1_shades_42 rfl (ok_X1_gives hG hw) q2589 q2591 qs100 q159 q2592 hd_X1_gives ⟨rfl, rfl, rfl⟩ (fun r8 T7 hw => ?_)
      exact t_iret C dX1_shades_45 ⟨_, rfl, hw⟩
    · replace hw := hw.2 hc6
      refine t_b C (pc' := 29) (L' := [(0, vA (some o)), (1, vI p0)]) (st' := [vI 6, vA (some o)]) [(.aload_n 0, 1), (.bipush 6, 2)] ⟨dX1_shades_26, dX1_shades_27, rfl⟩ rfl ?_
      refine t_callVI C 32 [vI 6] [] dX1_shades_29 rfl (ok_X1_refuse hG hw) q2434 q2436 qs70 q159 q2437 hd_X1_refuse ⟨rfl, rfl, rfl⟩ (fun r10 T9 hw => ?_)
      refine t_goto C 45 dX1_shades_32 rfl ?_
      exact t_iret C dX1_shades_45 ⟨_, rfl, hw⟩
  · replace hw := hw.1 hc3
    refine t_b C (pc' := 10) (L' := [(0, vA (some o)), (1, vI p0)]) (st' := [vI 4, vA (some o)]) [(.aload_n 0, 1), (.iconst 4, 1)] ⟨dX1_shades_8, dX1_shades_9, rfl⟩ rfl ?_
    refine t_callVI C 13 [vI 4] [] dX1_shades_10 rfl (ok_X1_refuse hG hw) q2434 q2436 qs70 q159 q2437 hd_X1_refuse ⟨rfl, rfl, rfl⟩ (fun r12 T11 hw => ?_)
    exact t_iret C dX1_shades_13 ⟨_, rfl, hw⟩
def wp_X1_span (p0 : Int32) (p1 : Int32) (p2 : Int32) (T : TS) (Q : Int32 → TS → Prop) : Prop :=
  wp_X1_isFrom p2 0 1 T fun r2 T1 =>
  ((r2 = 0 →
  wp_X1_refuse 1 T1 fun r33 T32 =>
  Q r33 T32) ∧ (¬ r2 = 0 →
  wp_X1_hasTree  T1 fun r5 T4 =>
  ((r5 = 0 →
  wp_X1_refuse 3 T4 fun r31 T30 =>
  Q r31 T30) ∧ (¬ r5 = 0 →
  wp_X1_isInstance p0 p1 T4 fun r8 T7 =>
  ((r8 = 0 →
  wp_X1_refuse 4 T7 fun r29 T28 =>
  Q r29 T28) ∧ (¬ r8 = 0 →
  tlp (σ := Int32 × Int32) (fun s10 T11 k10 =>
  (((8 * (T11.s 250)) ≤ s10.2 →
  wp_X1_gives (s10.1) T11 fun r14 T13 =>
  Q r14 T13) ∧ (¬ (8 * (T11.s 250)) ≤ s10.2 →
  ((s10.2 = ((8 * p0) + p1) →
  k10 (s10.1, (s10.2 + 1)) T11) ∧ (¬ s10.2 = ((8 * p0) + p1) →
  tix 36 42 s10.2 ∧
  (((T11.a 36 (ni s10.2)) = 0 →
  k10 (s10.1, (s10.2 + 1)) T11) ∧ (¬ (T11.a 36 (ni s10.2)) = 0 →
  ((p2 = 0 →
  wp_X1_bit 35 ((8 * p0) + p1) (s10.2) T11 fun r24 T23 =>
  ∀ m25 : Int32, m25 = (if r24 = 0 then 0 else 1) →
  k10 ((s10.1 + m25), (s10.2 + 1)) T23) ∧ (¬ p2 = 0 →
  wp_X1_bit 35 (s10.2) ((8 * p0) + p1) T11 fun r19 T18 =>
  ∀ m20 : Int32, m20 = (if r19 = 0 then 0 else 1) →
  k10 ((s10.1 + m20), (s10.2 + 1)) T18))))))))) (1, 0) T7))))))
theorem hd_X1_span : yX1_span.cls = RX1 ∧ yX1_span.cls ≠ "java/lang/invoke/MethodHandle" ∧ yX1_span.cls ≠ "java/lang/invoke/VarHandle" ∧ (parseMethodDescriptor yX1_span.desc).map (fun d => d.parameters.length) = some 3 := by decide +kernel
theorem ok_X1_span {l : Launch} {D : va_G} {s0 : S0} (hG : G0 D s0) {o : Nat} {p0 : Int32} {p1 : Int32} {p2 : Int32} {T : TS} {Q : Int32 → TS → Prop} (hw : wp_X1_span p0 p1 p2 T Q) : OKt l D s0 o yX1_span cX1_span 7 (some .int) 3 65 [vA (some o), vI p0, vI p1, vI p2] T (TI Q) := by
  refine t_met hG rfl rfl (L0 := [(0, vA (some o)), (1, vI p0), (2, vI p1), (3, vI p2)]) rfl rfl ?_
  intro h K C
  unfold wp_X1_span at hw
  refine t_b C (pc' := 3) (L' := [(0, vA (some o)), (1, vI p0), (2, vI p1), (3, vI p2)]) (st' := [vI 1, vI 0, vI p2]) [(.iload_n 3, 1), (.iconst 0, 1), (.iconst 1, 1)] ⟨dX1_span_0, dX1_span_1, dX1_span_2, rfl⟩ rfl ?_
  refine t_callSI C 6 [vI p2, vI 0, vI 1] [] dX1_span_3 rfl (ok_X1_isFrom hG hw) q2431 q2432 q159 q2433 hd_X1_isFrom ⟨rfl, rfl, rfl⟩ (fun r2 T1 hw => ?_)
  refine t_if_ne C 15 9 dX1_span_6 rfl rfl (fun hc3 => ?_) (fun hc3 => ?_)
  · replace hw := hw.2 hc3
    refine t_b C (pc' := 16) (L' := [(0, vA (some o)), (1, vI p0), (2, vI p1), (3, vI p2)]) (st' := [vA (some o)]) [(.aload_n 0, 1)] ⟨dX1_span_15, rfl⟩ rfl ?_
    refine t_callVI C 19 [] [] dX1_span_16 rfl (ok_X1_hasTree hG hw) q2849 q2851 qs148 q159 q2852 hd_X1_hasTree ⟨rfl, rfl, rfl⟩ (fun r5 T4 hw => ?_)
    refine t_if_ne C 28 22 dX1_span_19 rfl rfl (fun hc6 => ?_) (fun hc6 => ?_)
    · replace hw := hw.2 hc6
      refine t_b C (pc' := 31) (L' := [(0, vA (some o)), (1, vI p0), (2, vI p1), (3, vI p2)]) (st' := [vI p1, vI p0, vA (some o)]) [(.aload_n 0, 1), (.iload_n 1, 1), (.iload_n 2, 1)] ⟨dX1_span_28, dX1_span_29, dX1_span_30, rfl⟩ rfl ?_
      refine t_callVI C 34 [vI p0, vI p1] [] dX1_span_31 rfl (ok_X1_isInstance hG hw) q2774 q2776 qs133 q159 q2777 hd_X1_isInstance ⟨rfl, rfl, rfl⟩ (fun r8 T7 hw => ?_)
      refine t_if_ne C 43 37 dX1_span_34 rfl rfl (fun hc9 => ?_) (fun hc9 => ?_)
      · replace hw := hw.2 hc9
        refine t_b C (pc' := 57) (L' := [(6, vI 0), (5, vI 1), (4, vI ((8 * p0) + p1)), (0, vA (some o)), (1, vI p0), (2, vI p1), (3, vI p2)]) (st' := []) [(.bipush 8, 2), (.iload_n 1, 1), (.imul, 1), (.iload_n 2, 1), (.iadd, 1), (.istore 4, 2), (.iconst 1, 1), (.istore 5, 2), (.iconst 0, 1), (.istore 6, 2)] ⟨dX1_span_43, dX1_span_45, dX1_span_46, dX1_span_47, dX1_span_48, dX1_span_49, dX1_span_51, dX1_span_52, dX1_span_54, dX1_span_55, rfl⟩ rfl ?_
        obtain ⟨I10, ⟨n10, hI10⟩, hB10⟩ := tlp.out hw
        refine t_sub C (L' := [(0, vA (some o)), (3, vI p2), (4, vI ((8 * p0) + p1)), (5, vI 1), (6, vI 0)]) [3, 6, 2, 1, 0] rfl ?_
        have key10 : ∀ (n : Nat) (s10 : Int32 × Int32) (T11 : TS), I10 n s10 T11 → K 57 [(0, vA (some o)), (3, vI p2), (4, vI ((8 * p0) + p1)), (5, vI (s10.1)), (6, vI (s10.2))] [] T11 := by
          intro n
          induction n using Nat.strongRecOn with
          | ind n ih10 =>
            intro s10 T11 hI
            replace hw := hB10 n s10 T11 hI
            refine t_b C (pc' := 62) (L' := [(0, vA (some o)), (3, vI p2), (4, vI ((8 * p0) + p1)), (5, vI (s10.1)), (6, vI (s10.2))]) (st' := [vA (some o), vI 8, vI (s10.2)]) [(.iload 6, 2), (.bipush 8, 2), (.aload_n 0, 1)] ⟨dX1_span_57, dX1_span_59, dX1_span_61, rfl⟩ rfl ?_
            refine t_gI C 250 65 dX1_span_62 rfl rfl rfl q2238 (fun _ _ _ => rfl) ?_
            refine t_b C (pc' := 66) (L' := [(0, vA (some o)), (3, vI p2), (4, vI ((8 * p0) + p1)), (5, vI (s10.1)), (6, vI (s10.2))]) (st' := [vI (8 * (T11.s 250)), vI (s10.2)]) [(.imul, 1)] ⟨dX1_span_65, rfl⟩ rfl ?_
            refine t_icmp_ge C 137 69 dX1_span_66 rfl rfl (fun hc12 => ?_) (fun hc12 => ?_)
            · replace hw := hw.1 hc12
              refine t_b C (pc' := 140) (L' := [(0, vA (some o)), (3, vI p2), (4, vI ((8 * p0) + p1)), (5, vI (s10.1)), (6, vI (s10.2))]) (st' := [vI (s10.1), vA (some o)]) [(.aload_n 0, 1), (.iload 5, 2)] ⟨dX1_span_137, dX1_span_138, rfl⟩ rfl ?_
              refine t_callVI C 143 [vI (s10.1)] [] dX1_span_140 rfl (ok_X1_gives hG hw) q2589 q2591 qs100 q159 q2592 hd_X1_gives ⟨rfl, rfl, rfl⟩ (fun r14 T13 hw => ?_)
              exact t_iret C dX1_span_143 ⟨_, rfl, hw⟩
            · replace hw := hw.2 hc12
              refine t_b C (pc' := 73) (L' := [(0, vA (some o)), (3, vI p2), (4, vI ((8 * p0) + p1)), (5, vI (s10.1)), (6, vI (s10.2))]) (st' := [vI ((8 * p0) + p1), vI (s10.2)]) [(.iload 6, 2), (.iload 4, 2)] ⟨dX1_span_69, dX1_span_71, rfl⟩ rfl ?_
              refine t_icmp_eq C 131 76 dX1_span_73 rfl rfl (fun hc15 => ?_) (fun hc15 => ?_)
              · replace hw := hw.1 hc15
                refine t_b C (pc' := 134) (L' := [(6, vI (s10.2 + 1)), (0, vA (some o)), (3, vI p2), (4, vI ((8 * p0) + p1)), (5, vI (s10.1))]) (st' := []) [(.iinc 6 1, 3)] ⟨dX1_span_131, rfl⟩ rfl ?_
                refine t_goto C 57 dX1_span_134 rfl ?_
                refine t_sub C (L' := [(0, vA (some o)), (3, vI p2), (4, vI ((8 * p0) + p1)), (5, vI (s10.1)), (6, vI (s10.2 + 1))]) [1, 2, 3, 4, 0] rfl ?_
                obtain ⟨m9, hm9, hw⟩ := hw
                exact ih10 m9 hm9 (s10.1, (s10.2 + 1)) T11 hw
              · replace hw := hw.2 hc15
                refine t_b C (pc' := 77) (L' := [(0, vA (some o)), (3, vI p2), (4, vI ((8 * p0) + p1)), (5, vI (s10.1)), (6, vI (s10.2))]) (st' := [vA (some o)]) [(.aload_n 0, 1)] ⟨dX1_span_76, rfl⟩ rfl ?_
                refine t_gA C 266 36 80 dX1_span_77 rfl rfl rfl rfl rfl q2254 (fun _ _ _ => rfl) ?_
                refine t_b C (pc' := 82) (L' := [(0, vA (some o)), (3, vI p2), (4, vI ((8 * p0) + p1)), (5, vI (s10.1)), (6, vI (s10.2))]) (st' := [vI (s10.2), vA (some (o + 1 + 36))]) [(.iload 6, 2)] ⟨dX1_span_80, rfl⟩ rfl ?_
                refine t_zald C 83 dX1_span_82 rfl hw.1 ?_
                replace hw := hw.2
                refine t_if_eq C 131 86 dX1_span_83 rfl rfl (fun hc16 => ?_) (fun hc16 => ?_)
                · replace hw := hw.1 hc16
                  refine t_b C (pc' := 134) (L' := [(6, vI (s10.2 + 1)), (0, vA (some o)), (3, vI p2), (4, vI ((8 * p0) + p1)), (5, vI (s10.1))]) (st' := []) [(.iinc 6 1, 3)] ⟨dX1_span_131, rfl⟩ rfl ?_
                  refine t_goto C 57 dX1_span_134 rfl ?_
                  refine t_sub C (L' := [(0, vA (some o)), (3, vI p2), (4, vI ((8 * p0) + p1)), (5, vI (s10.1)), (6, vI (s10.2 + 1))]) [1, 2, 3, 4, 0] rfl ?_
                  obtain ⟨m9, hm9, hw⟩ := hw
                  exact ih10 m9 hm9 (s10.1, (s10.2 + 1)) T11 hw
                · replace hw := hw.2 hc16
                  refine t_b C (pc' := 89) (L' := [(0, vA (some o)), (3, vI p2), (4, vI ((8 * p0) + p1)), (5, vI (s10.1)), (6, vI (s10.2))]) (st' := [vI p2, vI (s10.1)]) [(.iload 5, 2), (.iload_n 3, 1)] ⟨dX1_span_86, dX1_span_88, rfl⟩ rfl ?_
                  refine t_if_ne C 109 92 dX1_span_89 rfl rfl (fun hc17 => ?_) (fun hc17 => ?_)
                  · replace hw := hw.2 hc17
                    refine t_b C (pc' := 110) (L' := [(0, vA (some o)), (3, vI p2), (4, vI ((8 * p0) + p1)), (5, vI (s10.1)), (6, vI (s10.2))]) (st' := [vA (some o), vI (s10.1)]) [(.aload_n 0, 1)] ⟨dX1_span_109, rfl⟩ rfl ?_
                    refine t_gA C 265 35 113 dX1_span_110 rfl rfl rfl rfl rfl q2253 (fun _ _ _ => rfl) ?_
                    refine t_b C (pc' := 117) (L' := [(0, vA (some o)), (3, vI p2), (4, vI ((8 * p0) + p1)), (5, vI (s10.1)), (6, vI (s10.2))]) (st' := [vI ((8 * p0) + p1), vI (s10.2), vA (some (o + 1 + 35)), vI (s10.1)]) [(.iload 6, 2), (.iload 4, 2)] ⟨dX1_span_113, dX1_span_115, rfl⟩ rfl ?_
                    refine t_callSI C 120 [vA (some (o + 1 + 35)), vI (s10.2), vI ((8 * p0) + p1)] [vI (s10.1)] dX1_span_117 rfl (ok_X1_bit hG hw) q2806 q2807 q159 q2808 hd_X1_bit ⟨rfl, rfl, rfl⟩ (fun r19 T18 hw => ?_)
                    have kj21 : ∀ (m20 : Int32), m20 = (if r19 = 0 then 0 else 1) → K 128 [(0, vA (some o)), (3, vI p2), (4, vI ((8 * p0) + p1)), (6, vI (s10.2))] [vI m20, vI (s10.1)] T18 := by
                      intro m20 em20
                      replace hw := hw m20 em20
                      refine t_b C (pc' := 134) (L' := [(6, vI (s10.2 + 1)), (5, vI (s10.1 + m20)), (0, vA (some o)), (3, vI p2), (4, vI ((8 * p0) + p1))]) (st' := []) [(.iadd, 1), (.istore 5, 2), (.iinc 6 1, 3)] ⟨dX1_span_128, dX1_span_129, dX1_span_131, rfl⟩ rfl ?_
                      refine t_goto C 57 dX1_span_134 rfl ?_
                      refine t_sub C (L' := [(0, vA (some o)), (3, vI p2), (4, vI ((8 * p0) + p1)), (5, vI (s10.1 + m20)), (6, vI (s10.2 + 1))]) [2, 3, 4, 1, 0] rfl ?_
                      obtain ⟨m9, hm9, hw⟩ := hw
                      exact ih10 m9 hm9 ((s10.1 + m20), (s10.2 + 1)) T18 hw
                    refine t_if_eq C 127 123 dX1_span_120 rfl rfl (fun hc22 => ?_) (fun hc22 => ?_)
                    · refine t_b C (pc' := 128) (L' := [(0, vA (some o)), (3, vI p2), (4, vI ((8 * p0) + p1)), (5, vI (s10.1)), (6, vI (s10.2))]) (st' := [vI 0, vI (s10.1)]) [(.iconst 0, 1)] ⟨dX1_span_127, rfl⟩ rfl ?_
                      refine t_sub C (L' := [(0, vA (some o)), (3, vI p2), (4, vI ((8 * p0) + p1)), (6, vI (s10.2))]) [0, 1, 2, 4] rfl ?_
                      exact kj21 _ ((if_pos hc22).symm)
                    · refine t_b C (pc' := 124) (L' := [(0, vA (some o)), (3, vI p2), (4, vI ((8 * p0) + p1)), (5, vI (s10.1)), (6, vI (s10.2))]) (st' := [vI 1, vI (s10.1)]) [(.iconst 1, 1)] ⟨dX1_span_123, rfl⟩ rfl ?_
                      refine t_goto C 128 dX1_span_124 rfl ?_
                      refine t_sub C (L' := [(0, vA (some o)), (3, vI p2), (4, vI ((8 * p0) + p1)), (6, vI (s10.2))]) [0, 1, 2, 4] rfl ?_
                      exact kj21 _ ((if_neg hc22).symm)
                  · replace hw := hw.1 hc17
                    refine t_b C (pc' := 93) (L' := [(0, vA (some o)), (3, vI p2), (4, vI ((8 * p0) + p1)), (5, vI (s10.1)), (6, vI (s10.2))]) (st' := [vA (some o), vI (s10.1)]) [(.aload_n 0, 1)] ⟨dX1_span_92, rfl⟩ rfl ?_
                    refine t_gA C 265 35 96 dX1_span_93 rfl rfl rfl rfl rfl q2253 (fun _ _ _ => rfl) ?_
                    refine t_b C (pc' := 100) (L' := [(0, vA (some o)), (3, vI p2), (4, vI ((8 * p0) + p1)), (5, vI (s10.1)), (6, vI (s10.2))]) (st' := [vI (s10.2), vI ((8 * p0) + p1), vA (some (o + 1 + 35)), vI (s10.1)]) [(.iload 4, 2), (.iload 6, 2)] ⟨dX1_span_96, dX1_span_98, rfl⟩ rfl ?_
                    refine t_callSI C 103 [vA (some (o + 1 + 35)), vI ((8 * p0) + p1), vI (s10.2)] [vI (s10.1)] dX1_span_100 rfl (ok_X1_bit hG hw) q2806 q2807 q159 q2808 hd_X1_bit ⟨rfl, rfl, rfl⟩ (fun r24 T23 hw => ?_)
                    have kj26 : ∀ (m25 : Int32), m25 = (if r24 = 0 then 0 else 1) → K 128 [(0, vA (some o)), (3, vI p2), (4, vI ((8 * p0) + p1)), (6, vI (s10.2))] [vI m25, vI (s10.1)] T23 := by
                      intro m25 em25
                      replace hw := hw m25 em25
                      refine t_b C (pc' := 134) (L' := [(6, vI (s10.2 + 1)), (5, vI (s10.1 + m25)), (0, vA (some o)), (3, vI p2), (4, vI ((8 * p0) + p1))]) (st' := []) [(.iadd, 1), (.istore 5, 2), (.iinc 6 1, 3)] ⟨dX1_span_128, dX1_span_129, dX1_span_131, rfl⟩ rfl ?_
                      refine t_goto C 57 dX1_span_134 rfl ?_
                      refine t_sub C (L' := [(0, vA (some o)), (3, vI p2), (4, vI ((8 * p0) + p1)), (5, vI (s10.1 + m25)), (6, vI (s10.2 + 1))]) [2, 3, 4, 1, 0] rfl ?_
                      obtain ⟨m9, hm9, hw⟩ := hw
                      exact ih10 m9 hm9 ((s10.1 + m25), (s10.2 + 1)) T23 hw
                    refine t_if_eq C 127 106 dX1_span_103 rfl rfl (fun hc27 => ?_) (fun hc27 => ?_)
                    · refine t_b C (pc' := 128) (L' := [(0, vA (some o)), (3, vI p2), (4, vI ((8 * p0) + p1)), (5, vI (s10.1)), (6, vI (s10.2))]) (st' := [vI 0, vI (s10.1)]) [(.iconst 0, 1)] ⟨dX1_span_127, rfl⟩ rfl ?_
                      refine t_sub C (L' := [(0, vA (some o)), (3, vI p2), (4, vI ((8 * p0) + p1)), (6, vI (s10.2))]) [0, 1, 2, 4] rfl ?_
                      exact kj26 _ ((if_pos hc27).symm)
                    · refine t_goto C 123 dX1_span_106 rfl ?_
                      refine t_b C (pc' := 124) (L' := [(0, vA (some o)), (3, vI p2), (4, vI ((8 * p0) + p1)), (5, vI (s10.1)), (6, vI (s10.2))]) (st' := [vI 1, vI (s10.1)]) [(.iconst 1, 1)] ⟨dX1_span_123, rfl⟩ rfl ?_
                      refine t_goto C 128 dX1_span_124 rfl ?_
                      refine t_sub C (L' := [(0, vA (some o)), (3, vI p2), (4, vI ((8 * p0) + p1)), (6, vI (s10.2))]) [0, 1, 2, 4] rfl ?_
                      exact kj26 _ ((if_neg hc27).symm)
        exact key10 n10 (1, 0) T7 hI10
      · replace hw := hw.1 hc9
        refine t_b C (pc' := 39) (L' := [(0, vA (some o)), (1, vI p0), (2, vI p1), (3, vI p2)]) (st' := [vI 4, vA (some o)]) [(.aload_n 0, 1), (.iconst 4, 1)] ⟨dX1_span_37, dX1_span_38, rfl⟩ rfl ?_
        refine t_callVI C 42 [vI 4] [] dX1_span_39 rfl (ok_X1_refuse hG hw) q2434 q2436 qs70 q159 q2437 hd_X1_refuse ⟨rfl, rfl, rfl⟩ (fun r29 T28 hw => ?_)
        exact t_iret C dX1_span_42 ⟨_, rfl, hw⟩
    · replace hw := hw.1 hc6
      refine t_b C (pc' := 24) (L' := [(0, vA (some o)), (1, vI p0), (2, vI p1), (3, vI p2)]) (st' := [vI 3, vA (some o)]) [(.aload_n 0, 1), (.iconst 3, 1)] ⟨dX1_span_22, dX1_span_23, rfl⟩ rfl ?_
      refine t_callVI C 27 [vI 3] [] dX1_span_24 rfl (ok_X1_refuse hG hw) q2434 q2436 qs70 q159 q2437 hd_X1_refuse ⟨rfl, rfl, rfl⟩ (fun r31 T30 hw => ?_)
      exact t_iret C dX1_span_27 ⟨_, rfl, hw⟩
  · replace hw := hw.1 hc3
    refine t_b C (pc' := 11) (L' := [(0, vA (some o)), (1, vI p0), (2, vI p1), (3, vI p2)]) (st' := [vI 1, vA (some o)]) [(.aload_n 0, 1), (.iconst 1, 1)] ⟨dX1_span_9, dX1_span_10, rfl⟩ rfl ?_
    refine t_callVI C 14 [vI 1] [] dX1_span_11 rfl (ok_X1_refuse hG hw) q2434 q2436 qs70 q159 q2437 hd_X1_refuse ⟨rfl, rfl, rfl⟩ (fun r33 T32 hw => ?_)
    exact t_iret C dX1_span_14 ⟨_, rfl, hw⟩
def wp_X1_status  (T : TS) (Q : Int32 → TS → Prop) : Prop :=
  Q (T.s 206) T
theorem hd_X1_status : yX1_status.cls = RX1 ∧ yX1_status.cls ≠ "java/lang/invoke/MethodHandle" ∧ yX1_status.cls ≠ "java/lang/invoke/VarHandle" ∧ (parseMethodDescriptor yX1_status.desc).map (fun d => d.parameters.length) = some 0 := by decide +kernel
theorem ok_X1_status {l : Launch} {D : va_G} {s0 : S0} (hG : G0 D s0) {o : Nat}  {T : TS} {Q : Int32 → TS → Prop} (hw : wp_X1_status  T Q) : OKt l D s0 o yX1_status cX1_status 1 (some .int) 0 0 [vA (some o)] T (TI Q) := by
  refine t_met hG rfl rfl (L0 := [(0, vA (some o))]) rfl rfl ?_
  intro h K C
  unfold wp_X1_status at hw
  refine t_b C (pc' := 1) (L' := [(0, vA (some o))]) (st' := [vA (some o)]) [(.aload_n 0, 1)] ⟨dX1_status_0, rfl⟩ rfl ?_
  refine t_gI C 206 4 dX1_status_1 rfl rfl rfl q2194 (fun _ _ _ => rfl) ?_
  exact t_iret C dX1_status_4 ⟨_, rfl, hw⟩
def wp_X1_symbol (p0 : Int32) (p1 : Int32) (T : TS) (Q : Int32 → TS → Prop) : Prop :=
  wp_X1_isFrom p1 0 3 T fun r2 T1 =>
  ((r2 = 0 →
  wp_X1_refuse 1 T1 fun r34 T33 =>
  Q r34 T33) ∧ (¬ r2 = 0 →
  wp_X1_isSymbol p0 T1 fun r5 T4 =>
  ((r5 = 0 →
  wp_X1_refuse 4 T4 fun r32 T31 =>
  Q r32 T31) ∧ (¬ r5 = 0 →
  ((2 ≤ p1 →
  ((p1 = 2 →
  tlp (σ := Int32 × Int32) (fun s18 T19 k18 =>
  tix 1 40 1 ∧
  (((T19.a 1 (ni 1)) ≤ s18.2 →
  wp_X1_gives (s18.1) T19 fun r22 T21 =>
  Q r22 T21) ∧ (¬ (T19.a 1 (ni 1)) ≤ s18.2 →
  tix 1 40 (20 + s18.2) ∧
  ∀ m23 : Int32, m23 = (if (T19.a 1 (ni (20 + s18.2))) = p0 then 1 else 0) →
  k18 ((s18.1 + m23), (s18.2 + 1)) T19))) (0, 0) T4) ∧ (¬ p1 = 2 →
  wp_X1_isSelf p0 T4 fun r10 T9 =>
  ((r10 = 0 →
  wp_X1_laysVisits p0 T9 fun T12 =>
  tix 12 40 p0 ∧
  wp_X1_gives (T12.a 12 (ni p0)) T12 fun r15 T14 =>
  Q r15 T14) ∧ (¬ r10 = 0 →
  wp_X1_refuse 7 T9 fun r17 T16 =>
  Q r17 T16))))) ∧ (¬ 2 ≤ p1 →
  ∀ m26 : Int32, m26 = (if p1 = 0 then 4 else 12) →
  tix 1 40 (m26 + p0) ∧
  wp_X1_gives (T4.a 1 (ni (m26 + p0))) T4 fun r29 T28 =>
  Q r29 T28))))))
theorem hd_X1_symbol : yX1_symbol.cls = RX1 ∧ yX1_symbol.cls ≠ "java/lang/invoke/MethodHandle" ∧ yX1_symbol.cls ≠ "java/lang/invoke/VarHandle" ∧ (parseMethodDescriptor yX1_symbol.desc).map (fun d => d.parameters.length) = some 2 := by decide +kernel
theorem ok_X1_symbol {l : Launch} {D : va_G} {s0 : S0} (hG : G0 D s0) {o : Nat} {p0 : Int32} {p1 : Int32} {T : TS} {Q : Int32 → TS → Prop} (hw : wp_X1_symbol p0 p1 T Q) : OKt l D s0 o yX1_symbol cX1_symbol 5 (some .int) 5 112 [vA (some o), vI p0, vI p1] T (TI Q) := by
  refine t_met hG rfl rfl (L0 := [(0, vA (some o)), (1, vI p0), (2, vI p1)]) rfl rfl ?_
  intro h K C
  unfold wp_X1_symbol at hw
  refine t_b C (pc' := 3) (L' := [(0, vA (some o)), (1, vI p0), (2, vI p1)]) (st' := [vI 3, vI 0, vI p1]) [(.iload_n 2, 1), (.iconst 0, 1), (.iconst 3, 1)] ⟨dX1_symbol_0, dX1_symbol_1, dX1_symbol_2, rfl⟩ rfl ?_
  refine t_callSI C 6 [vI p1, vI 0, vI 3] [] dX1_symbol_3 rfl (ok_X1_isFrom hG hw) q2431 q2432 q159 q2433 hd_X1_isFrom ⟨rfl, rfl, rfl⟩ (fun r2 T1 hw => ?_)
  refine t_if_ne C 15 9 dX1_symbol_6 rfl rfl (fun hc3 => ?_) (fun hc3 => ?_)
  · replace hw := hw.2 hc3
    refine t_b C (pc' := 17) (L' := [(0, vA (some o)), (1, vI p0), (2, vI p1)]) (st' := [vI p0, vA (some o)]) [(.aload_n 0, 1), (.iload_n 1, 1)] ⟨dX1_symbol_15, dX1_symbol_16, rfl⟩ rfl ?_
    refine t_callVI C 20 [vI p0] [] dX1_symbol_17 rfl (ok_X1_isSymbol hG hw) q2609 q2611 qs102 q159 q2612 hd_X1_isSymbol ⟨rfl, rfl, rfl⟩ (fun r5 T4 hw => ?_)
    refine t_if_ne C 29 23 dX1_symbol_20 rfl rfl (fun hc6 => ?_) (fun hc6 => ?_)
    · replace hw := hw.2 hc6
      refine t_b C (pc' := 31) (L' := [(0, vA (some o)), (1, vI p0), (2, vI p1)]) (st' := [vI 2, vI p1]) [(.iload_n 2, 1), (.iconst 2, 1)] ⟨dX1_symbol_29, dX1_symbol_30, rfl⟩ rfl ?_
      refine t_icmp_ge C 56 34 dX1_symbol_31 rfl rfl (fun hc7 => ?_) (fun hc7 => ?_)
      · replace hw := hw.1 hc7
        refine t_b C (pc' := 58) (L' := [(0, vA (some o)), (1, vI p0), (2, vI p1)]) (st' := [vI 2, vI p1]) [(.iload_n 2, 1), (.iconst 2, 1)] ⟨dX1_symbol_56, dX1_symbol_57, rfl⟩ rfl ?_
        refine t_icmp_ne C 111 61 dX1_symbol_58 rfl rfl (fun hc8 => ?_) (fun hc8 => ?_)
        · replace hw := hw.2 hc8
          refine t_b C (pc' := 113) (L' := [(0, vA (some o)), (1, vI p0), (2, vI p1)]) (st' := [vI p0, vA (some o)]) [(.aload_n 0, 1), (.iload_n 1, 1)] ⟨dX1_symbol_111, dX1_symbol_112, rfl⟩ rfl ?_
          refine t_callVI C 116 [vI p0] [] dX1_symbol_113 rfl (ok_X1_isSelf hG hw) q2613 q2615 qs103 q159 q2616 hd_X1_isSelf ⟨rfl, rfl, rfl⟩ (fun r10 T9 hw => ?_)
          refine t_if_eq C 126 119 dX1_symbol_116 rfl rfl (fun hc11 => ?_) (fun hc11 => ?_)
          · replace hw := hw.1 hc11
            refine t_b C (pc' := 128) (L' := [(0, vA (some o)), (1, vI p0), (2, vI p1)]) (st' := [vI p0, vA (some o)]) [(.aload_n 0, 1), (.iload_n 1, 1)] ⟨dX1_symbol_126, dX1_symbol_127, rfl⟩ rfl ?_
            refine t_callVV C 131 [vI p0] [] dX1_symbol_128 rfl (ok_X1_laysVisits hG hw) q2617 q2619 qs104 q159 q2620 hd_X1_laysVisits ⟨rfl, rfl, rfl⟩ (fun T12 hw => ?_)
            refine t_b C (pc' := 133) (L' := [(0, vA (some o)), (1, vI p0), (2, vI p1)]) (st' := [vA (some o), vA (some o)]) [(.aload_n 0, 1), (.aload_n 0, 1)] ⟨dX1_symbol_131, dX1_symbol_132, rfl⟩ rfl ?_
            refine t_gA C 230 12 136 dX1_symbol_133 rfl rfl rfl rfl rfl q2218 (fun _ _ _ => rfl) ?_
            refine t_b C (pc' := 137) (L' := [(0, vA (some o)), (1, vI p0), (2, vI p1)]) (st' := [vI p0, vA (some (o + 1 + 12)), vA (some o)]) [(.iload_n 1, 1)] ⟨dX1_symbol_136, rfl⟩ rfl ?_
            refine t_iald C 138 dX1_symbol_137 rfl hw.1 ?_
            replace hw := hw.2
            refine t_callVI C 141 [vI (T12.a 12 (ni p0))] [] dX1_symbol_138 rfl (ok_X1_gives hG hw) q2589 q2591 qs100 q159 q2592 hd_X1_gives ⟨rfl, rfl, rfl⟩ (fun r15 T14 hw => ?_)
            exact t_iret C dX1_symbol_141 ⟨_, rfl, hw⟩
          · replace hw := hw.2 hc11
            refine t_b C (pc' := 122) (L' := [(0, vA (some o)), (1, vI p0), (2, vI p1)]) (st' := [vI 7, vA (some o)]) [(.aload_n 0, 1), (.bipush 7, 2)] ⟨dX1_symbol_119, dX1_symbol_120, rfl⟩ rfl ?_
            refine t_callVI C 125 [vI 7] [] dX1_symbol_122 rfl (ok_X1_refuse hG hw) q2434 q2436 qs70 q159 q2437 hd_X1_refuse ⟨rfl, rfl, rfl⟩ (fun r17 T16 hw => ?_)
            exact t_iret C dX1_symbol_125 ⟨_, rfl, hw⟩
        · replace hw := hw.1 hc8
          refine t_b C (pc' := 66) (L' := [(4, vI 0), (3, vI 0), (0, vA (some o)), (1, vI p0), (2, vI p1)]) (st' := []) [(.iconst 0, 1), (.istore_n 3, 1), (.iconst 0, 1), (.istore 4, 2)] ⟨dX1_symbol_61, dX1_symbol_62, dX1_symbol_63, dX1_symbol_64, rfl⟩ rfl ?_
          obtain ⟨I18, ⟨n18, hI18⟩, hB18⟩ := tlp.out hw
          refine t_sub C (L' := [(0, vA (some o)), (1, vI p0), (3, vI 0), (4, vI 0)]) [2, 3, 1, 0] rfl ?_
          have key18 : ∀ (n : Nat) (s18 : Int32 × Int32) (T19 : TS), I18 n s18 T19 → K 66 [(0, vA (some o)), (1, vI p0), (3, vI (s18.1)), (4, vI (s18.2))] [] T19 := by
            intro n
            induction n using Nat.strongRecOn with
            | ind n ih18 =>
              intro s18 T19 hI
              replace hw := hB18 n s18 T19 hI
              refine t_b C (pc' := 69) (L' := [(0, vA (some o)), (1, vI p0), (3, vI (s18.1)), (4, vI (s18.2))]) (st' := [vA (some o), vI (s18.2)]) [(.iload 4, 2), (.aload_n 0, 1)] ⟨dX1_symbol_66, dX1_symbol_68, rfl⟩ rfl ?_
              refine t_gA C 201 1 72 dX1_symbol_69 rfl rfl rfl rfl rfl q2189 (fun _ _ _ => rfl) ?_
              refine t_b C (pc' := 73) (L' := [(0, vA (some o)), (1, vI p0), (3, vI (s18.1)), (4, vI (s18.2))]) (st' := [vI 1, vA (some (o + 1 + 1)), vI (s18.2)]) [(.iconst 1, 1)] ⟨dX1_symbol_72, rfl⟩ rfl ?_
              refine t_iald C 74 dX1_symbol_73 rfl hw.1 ?_
              replace hw := hw.2
              refine t_icmp_ge C 105 77 dX1_symbol_74 rfl rfl (fun hc20 => ?_) (fun hc20 => ?_)
              · replace hw := hw.1 hc20
                refine t_b C (pc' := 107) (L' := [(0, vA (some o)), (1, vI p0), (3, vI (s18.1)), (4, vI (s18.2))]) (st' := [vI (s18.1), vA (some o)]) [(.aload_n 0, 1), (.iload_n 3, 1)] ⟨dX1_symbol_105, dX1_symbol_106, rfl⟩ rfl ?_
                refine t_callVI C 110 [vI (s18.1)] [] dX1_symbol_107 rfl (ok_X1_gives hG hw) q2589 q2591 qs100 q159 q2592 hd_X1_gives ⟨rfl, rfl, rfl⟩ (fun r22 T21 hw => ?_)
                exact t_iret C dX1_symbol_110 ⟨_, rfl, hw⟩
              · replace hw := hw.2 hc20
                refine t_b C (pc' := 79) (L' := [(0, vA (some o)), (1, vI p0), (3, vI (s18.1)), (4, vI (s18.2))]) (st' := [vA (some o), vI (s18.1)]) [(.iload_n 3, 1), (.aload_n 0, 1)] ⟨dX1_symbol_77, dX1_symbol_78, rfl⟩ rfl ?_
                refine t_gA C 201 1 82 dX1_symbol_79 rfl rfl rfl rfl rfl q2189 (fun _ _ _ => rfl) ?_
                refine t_b C (pc' := 87) (L' := [(0, vA (some o)), (1, vI p0), (3, vI (s18.1)), (4, vI (s18.2))]) (st' := [vI (20 + s18.2), vA (some (o + 1 + 1)), vI (s18.1)]) [(.bipush 20, 2), (.iload 4, 2), (.iadd, 1)] ⟨dX1_symbol_82, dX1_symbol_84, dX1_symbol_86, rfl⟩ rfl ?_
                refine t_iald C 88 dX1_symbol_87 rfl hw.1 ?_
                replace hw := hw.2
                refine t_b C (pc' := 89) (L' := [(0, vA (some o)), (1, vI p0), (3, vI (s18.1)), (4, vI (s18.2))]) (st' := [vI p0, vI (T19.a 1 (ni (20 + s18.2))), vI (s18.1)]) [(.iload_n 1, 1)] ⟨dX1_symbol_88, rfl⟩ rfl ?_
                have kj24 : ∀ (m23 : Int32), m23 = (if (T19.a 1 (ni (20 + s18.2))) = p0 then 1 else 0) → K 97 [(0, vA (some o)), (1, vI p0), (4, vI (s18.2))] [vI m23, vI (s18.1)] T19 := by
                  intro m23 em23
                  replace hw := hw m23 em23
                  refine t_b C (pc' := 102) (L' := [(4, vI (s18.2 + 1)), (3, vI (s18.1 + m23)), (0, vA (some o)), (1, vI p0)]) (st' := []) [(.iadd, 1), (.istore_n 3, 1), (.iinc 4 1, 3)] ⟨dX1_symbol_97, dX1_symbol_98, dX1_symbol_99, rfl⟩ rfl ?_
                  refine t_goto C 66 dX1_symbol_102 rfl ?_
                  refine t_sub C (L' := [(0, vA (some o)), (1, vI p0), (3, vI (s18.1 + m23)), (4, vI (s18.2 + 1))]) [2, 3, 1, 0] rfl ?_
                  obtain ⟨m9, hm9, hw⟩ := hw
                  exact ih18 m9 hm9 ((s18.1 + m23), (s18.2 + 1)) T19 hw
                refine t_icmp_ne C 96 92 dX1_symbol_89 rfl rfl (fun hc25 => ?_) (fun hc25 => ?_)
                · refine t_b C (pc' := 97) (L' := [(0, vA (some o)), (1, vI p0), (3, vI (s18.1)), (4, vI (s18.2))]) (st' := [vI 0, vI (s18.1)]) [(.iconst 0, 1)] ⟨dX1_symbol_96, rfl⟩ rfl ?_
                  refine t_sub C (L' := [(0, vA (some o)), (1, vI p0), (4, vI (s18.2))]) [0, 1, 3] rfl ?_
                  exact kj24 _ ((if_neg hc25).symm)
                · refine t_b C (pc' := 93) (L' := [(0, vA (some o)), (1, vI p0), (3, vI (s18.1)), (4, vI (s18.2))]) (st' := [vI 1, vI (s18.1)]) [(.iconst 1, 1)] ⟨dX1_symbol_92, rfl⟩ rfl ?_
                  refine t_goto C 97 dX1_symbol_93 rfl ?_
                  refine t_sub C (L' := [(0, vA (some o)), (1, vI p0), (4, vI (s18.2))]) [0, 1, 3] rfl ?_
                  exact kj24 _ ((if_pos hc25).symm)
          exact key18 n18 (0, 0) T4 hI18
      · replace hw := hw.2 hc7
        refine t_b C (pc' := 36) (L' := [(0, vA (some o)), (1, vI p0), (2, vI p1)]) (st' := [vA (some o), vA (some o)]) [(.aload_n 0, 1), (.aload_n 0, 1)] ⟨dX1_symbol_34, dX1_symbol_35, rfl⟩ rfl ?_
        refine t_gA C 201 1 39 dX1_symbol_36 rfl rfl rfl rfl rfl q2189 (fun _ _ _ => rfl) ?_
        refine t_b C (pc' := 40) (L' := [(0, vA (some o)), (1, vI p0), (2, vI p1)]) (st' := [vI p1, vA (some (o + 1 + 1)), vA (some o)]) [(.iload_n 2, 1)] ⟨dX1_symbol_39, rfl⟩ rfl ?_
        have kj27 : ∀ (m26 : Int32), m26 = (if p1 = 0 then 4 else 12) → K 49 [(1, vI p0)] [vI m26, vA (some (o + 1 + 1)), vA (some o)] T4 := by
          intro m26 em26
          replace hw := hw m26 em26
          refine t_b C (pc' := 51) (L' := [(1, vI p0)]) (st' := [vI (m26 + p0), vA (some (o + 1 + 1)), vA (some o)]) [(.iload_n 1, 1), (.iadd, 1)] ⟨dX1_symbol_49, dX1_symbol_50, rfl⟩ rfl ?_
          refine t_iald C 52 dX1_symbol_51 rfl hw.1 ?_
          replace hw := hw.2
          refine t_callVI C 55 [vI (T4.a 1 (ni (m26 + p0)))] [] dX1_symbol_52 rfl (ok_X1_gives hG hw) q2589 q2591 qs100 q159 q2592 hd_X1_gives ⟨rfl, rfl, rfl⟩ (fun r29 T28 hw => ?_)
          exact t_iret C dX1_symbol_55 ⟨_, rfl, hw⟩
        refine t_if_ne C 47 43 dX1_symbol_40 rfl rfl (fun hc30 => ?_) (fun hc30 => ?_)
        · refine t_b C (pc' := 49) (L' := [(0, vA (some o)), (1, vI p0), (2, vI p1)]) (st' := [vI 12, vA (some (o + 1 + 1)), vA (some o)]) [(.bipush 12, 2)] ⟨dX1_symbol_47, rfl⟩ rfl ?_
          refine t_sub C (L' := [(1, vI p0)]) [1] rfl ?_
          exact kj27 _ ((if_neg hc30).symm)
        · refine t_b C (pc' := 44) (L' := [(0, vA (some o)), (1, vI p0), (2, vI p1)]) (st' := [vI 4, vA (some (o + 1 + 1)), vA (some o)]) [(.iconst 4, 1)] ⟨dX1_symbol_43, rfl⟩ rfl ?_
          refine t_goto C 49 dX1_symbol_44 rfl ?_
          refine t_sub C (L' := [(1, vI p0)]) [1] rfl ?_
          exact kj27 _ ((if_pos hc30).symm)
    · replace hw := hw.1 hc6
      refine t_b C (pc' := 25) (L' := [(0, vA (some o)), (1, vI p0), (2, vI p1)]) (st' := [vI 4, vA (some o)]) [(.aload_n 0, 1), (.iconst 4, 1)] ⟨dX1_symbol_23, dX1_symbol_24, rfl⟩ rfl ?_
      refine t_callVI C 28 [vI 4] [] dX1_symbol_25 rfl (ok_X1_refuse hG hw) q2434 q2436 qs70 q159 q2437 hd_X1_refuse ⟨rfl, rfl, rfl⟩ (fun r32 T31 hw => ?_)
      exact t_iret C dX1_symbol_28 ⟨_, rfl, hw⟩
  · replace hw := hw.1 hc3
    refine t_b C (pc' := 11) (L' := [(0, vA (some o)), (1, vI p0), (2, vI p1)]) (st' := [vI 1, vA (some o)]) [(.aload_n 0, 1), (.iconst 1, 1)] ⟨dX1_symbol_9, dX1_symbol_10, rfl⟩ rfl ?_
    refine t_callVI C 14 [vI 1] [] dX1_symbol_11 rfl (ok_X1_refuse hG hw) q2434 q2436 qs70 q159 q2437 hd_X1_refuse ⟨rfl, rfl, rfl⟩ (fun r34 T33 hw => ?_)
    exact t_iret C dX1_symbol_14 ⟨_, rfl, hw⟩
def wp_X1_tree (p0 : Int32) (T : TS) (Q : Int32 → TS → Prop) : Prop :=
  wp_X1_isFrom p0 0 (T.s 205) T fun r2 T1 =>
  ((r2 = 0 →
  wp_X1_refuse 1 T1 fun r32 T31 =>
  Q r32 T31) ∧ (¬ r2 = 0 →
  (((T1.s 209) = 0 →
  wp_X1_refuse 2 T1 fun r30 T29 =>
  Q r30 T29) ∧ (¬ (T1.s 209) = 0 →
  ∀ T5, T5 = T1.ss 252 0 →
  wp_X1_readTree p0 (-1) 1 T5 fun r7 T6 =>
  wp_X1_ends r7 T6 fun r9 T8 =>
  ((r9 ≤ 0 →
  ∀ T11, T11 = T8.ss 250 (T8.s 251) →
  tlp (σ := Int32) (fun s12 T13 k12 =>
  (((T13.s 250) ≤ s12 →
  tlp (σ := Int32) (fun s15 T16 k15 =>
  ((4 ≤ s15 →
  ∀ T18, T18 = T16.ss 253 0 →
  wp_X1_settles  T18 fun T19 =>
  wp_X1_gives (T19.s 250) T19 fun r22 T21 =>
  Q r22 T21) ∧ (¬ 4 ≤ s15 →
  tix 25 40 s15 ∧
  ∀ T23, T23 = T16.sa 25 (ni s15) 0 →
  k15 (s15 + 1) T23))) 0 T13) ∧ (¬ (T13.s 250) ≤ s12 →
  tix 22 40 s12 ∧
  tix 19 40 s12 ∧
  ∀ T24, T24 = T13.sa 19 (ni s12) (T13.a 22 (ni s12)) →
  tix 23 40 s12 ∧
  tix 20 40 s12 ∧
  ∀ T25, T25 = T24.sa 20 (ni s12) (T24.a 23 (ni s12)) →
  tix 24 40 s12 ∧
  tix 21 40 s12 ∧
  ∀ T26, T26 = T25.sa 21 (ni s12) (T25.a 24 (ni s12)) →
  k12 (s12 + 1) T26))) 0 T11) ∧ (¬ r9 ≤ 0 →
  wp_X1_refuse 9 T8 fun r28 T27 =>
  Q r28 T27))))))
theorem hd_X1_tree : yX1_tree.cls = RX1 ∧ yX1_tree.cls ≠ "java/lang/invoke/MethodHandle" ∧ yX1_tree.cls ≠ "java/lang/invoke/VarHandle" ∧ (parseMethodDescriptor yX1_tree.desc).map (fun d => d.parameters.length) = some 1 := by decide +kernel
theorem ok_X1_tree {l : Launch} {D : va_G} {s0 : S0} (hG : G0 D s0) {o : Nat} {p0 : Int32} {T : TS} {Q : Int32 → TS → Prop} (hw : wp_X1_tree p0 T Q) : OKt l D s0 o yX1_tree cX1_tree 3 (some .int) 21 533 [vA (some o), vI p0] T (TI Q) := by
  refine t_met hG rfl rfl (L0 := [(0, vA (some o)), (1, vI p0)]) rfl rfl ?_
  intro h K C
  unfold wp_X1_tree at hw
  refine t_b C (pc' := 3) (L' := [(0, vA (some o)), (1, vI p0)]) (st' := [vA (some o), vI 0, vI p0]) [(.iload_n 1, 1), (.iconst 0, 1), (.aload_n 0, 1)] ⟨dX1_tree_0, dX1_tree_1, dX1_tree_2, rfl⟩ rfl ?_
  refine t_gI C 205 6 dX1_tree_3 rfl rfl rfl q2193 (fun _ _ _ => rfl) ?_
  refine t_callSI C 9 [vI p0, vI 0, vI (T.s 205)] [] dX1_tree_6 rfl (ok_X1_isFrom hG hw) q2431 q2432 q159 q2433 hd_X1_isFrom ⟨rfl, rfl, rfl⟩ (fun r2 T1 hw => ?_)
  refine t_if_ne C 18 12 dX1_tree_9 rfl rfl (fun hc3 => ?_) (fun hc3 => ?_)
  · replace hw := hw.2 hc3
    refine t_b C (pc' := 19) (L' := [(0, vA (some o)), (1, vI p0)]) (st' := [vA (some o)]) [(.aload_n 0, 1)] ⟨dX1_tree_18, rfl⟩ rfl ?_
    refine t_gI C 209 22 dX1_tree_19 rfl rfl rfl q2197 (fun _ _ _ => rfl) ?_
    refine t_if_ne C 31 25 dX1_tree_22 rfl rfl (fun hc4 => ?_) (fun hc4 => ?_)
    · replace hw := hw.2 hc4
      refine t_b C (pc' := 33) (L' := [(0, vA (some o)), (1, vI p0)]) (st' := [vI 0, vA (some o)]) [(.aload_n 0, 1), (.iconst 0, 1)] ⟨dX1_tree_31, dX1_tree_32, rfl⟩ rfl ?_
      refine t_pI C 252 36 dX1_tree_33 rfl rfl rfl rfl q2240 (fun _ _ _ => rfl) rfl rfl (fun T5 eT5 => ?_)
      replace hw := hw T5 eT5
      refine t_b C (pc' := 41) (L' := [(0, vA (some o)), (1, vI p0)]) (st' := [vI 1, vI (-1), vI p0, vA (some o), vA (some o)]) [(.aload_n 0, 1), (.aload_n 0, 1), (.iload_n 1, 1), (.iconst (-1), 1), (.iconst 1, 1)] ⟨dX1_tree_36, dX1_tree_37, dX1_tree_38, dX1_tree_39, dX1_tree_40, rfl⟩ rfl ?_
      refine t_callVI C 44 [vI p0, vI (-1), vI 1] [vA (some o)] dX1_tree_41 rfl (ok_X1_readTree hG hw) q2758 q2760 qs129 q159 q2761 hd_X1_readTree ⟨rfl, rfl, rfl⟩ (fun r7 T6 hw => ?_)
      refine t_callVI C 47 [vI r7] [] dX1_tree_44 rfl (ok_X1_ends hG hw) q2554 q2556 qs92 q159 q2557 hd_X1_ends ⟨rfl, rfl, rfl⟩ (fun r9 T8 hw => ?_)
      refine t_if_le C 57 50 dX1_tree_47 rfl rfl (fun hc10 => ?_) (fun hc10 => ?_)
      · replace hw := hw.1 hc10
        refine t_b C (pc' := 59) (L' := [(0, vA (some o)), (1, vI p0)]) (st' := [vA (some o), vA (some o)]) [(.aload_n 0, 1), (.aload_n 0, 1)] ⟨dX1_tree_57, dX1_tree_58, rfl⟩ rfl ?_
        refine t_gI C 251 62 dX1_tree_59 rfl rfl rfl q2239 (fun _ _ _ => rfl) ?_
        refine t_pI C 250 65 dX1_tree_62 rfl rfl rfl rfl q2238 (fun _ _ _ => rfl) rfl rfl (fun T11 eT11 => ?_)
        replace hw := hw T11 eT11
        refine t_b C (pc' := 67) (L' := [(2, vI 0), (0, vA (some o)), (1, vI p0)]) (st' := []) [(.iconst 0, 1), (.istore_n 2, 1)] ⟨dX1_tree_65, dX1_tree_66, rfl⟩ rfl ?_
        obtain ⟨I12, ⟨n12, hI12⟩, hB12⟩ := tlp.out hw
        refine t_sub C (L' := [(0, vA (some o)), (2, vI 0)]) [1, 0] rfl ?_
        have key12 : ∀ (n : Nat) (s12 : Int32) (T13 : TS), I12 n s12 T13 → K 67 [(0, vA (some o)), (2, vI s12)] [] T13 := by
          intro n
          induction n using Nat.strongRecOn with
          | ind n ih12 =>
            intro s12 T13 hI
            replace hw := hB12 n s12 T13 hI
            refine t_b C (pc' := 69) (L' := [(0, vA (some o)), (2, vI s12)]) (st' := [vA (some o), vI s12]) [(.iload_n 2, 1), (.aload_n 0, 1)] ⟨dX1_tree_67, dX1_tree_68, rfl⟩ rfl ?_
            refine t_gI C 250 72 dX1_tree_69 rfl rfl rfl q2238 (fun _ _ _ => rfl) ?_
            refine t_icmp_ge C 117 75 dX1_tree_72 rfl rfl (fun hc14 => ?_) (fun hc14 => ?_)
            · replace hw := hw.1 hc14
              refine t_b C (pc' := 119) (L' := [(2, vI 0), (0, vA (some o))]) (st' := []) [(.iconst 0, 1), (.istore_n 2, 1)] ⟨dX1_tree_117, dX1_tree_118, rfl⟩ rfl ?_
              obtain ⟨I15, ⟨n15, hI15⟩, hB15⟩ := tlp.out hw
              refine t_sub C (L' := [(0, vA (some o)), (2, vI 0)]) [1, 0] rfl ?_
              have key15 : ∀ (n : Nat) (s15 : Int32) (T16 : TS), I15 n s15 T16 → K 119 [(0, vA (some o)), (2, vI s15)] [] T16 := by
                intro n
                induction n using Nat.strongRecOn with
                | ind n ih15 =>
                  intro s15 T16 hI
                  replace hw := hB15 n s15 T16 hI
                  refine t_b C (pc' := 121) (L' := [(0, vA (some o)), (2, vI s15)]) (st' := [vI 4, vI s15]) [(.iload_n 2, 1), (.iconst 4, 1)] ⟨dX1_tree_119, dX1_tree_120, rfl⟩ rfl ?_
                  refine t_icmp_ge C 137 124 dX1_tree_121 rfl rfl (fun hc17 => ?_) (fun hc17 => ?_)
                  · replace hw := hw.1 hc17
                    refine t_b C (pc' := 139) (L' := [(0, vA (some o)), (2, vI s15)]) (st' := [vI 0, vA (some o)]) [(.aload_n 0, 1), (.iconst 0, 1)] ⟨dX1_tree_137, dX1_tree_138, rfl⟩ rfl ?_
                    refine t_pI C 253 142 dX1_tree_139 rfl rfl rfl rfl q2241 (fun _ _ _ => rfl) rfl rfl (fun T18 eT18 => ?_)
                    replace hw := hw T18 eT18
                    refine t_b C (pc' := 143) (L' := [(0, vA (some o)), (2, vI s15)]) (st' := [vA (some o)]) [(.aload_n 0, 1)] ⟨dX1_tree_142, rfl⟩ rfl ?_
                    refine t_callVV C 146 [] [] dX1_tree_143 rfl (ok_X1_settles hG hw) q2766 q2768 qs131 q159 q2769 hd_X1_settles ⟨rfl, rfl, rfl⟩ (fun T19 hw => ?_)
                    refine t_b C (pc' := 148) (L' := [(0, vA (some o)), (2, vI s15)]) (st' := [vA (some o), vA (some o)]) [(.aload_n 0, 1), (.aload_n 0, 1)] ⟨dX1_tree_146, dX1_tree_147, rfl⟩ rfl ?_
                    refine t_gI C 250 151 dX1_tree_148 rfl rfl rfl q2238 (fun _ _ _ => rfl) ?_
                    refine t_callVI C 154 [vI (T19.s 250)] [] dX1_tree_151 rfl (ok_X1_gives hG hw) q2589 q2591 qs100 q159 q2592 hd_X1_gives ⟨rfl, rfl, rfl⟩ (fun r22 T21 hw => ?_)
                    exact t_iret C dX1_tree_154 ⟨_, rfl, hw⟩
                  · replace hw := hw.2 hc17
                    refine t_b C (pc' := 125) (L' := [(0, vA (some o)), (2, vI s15)]) (st' := [vA (some o)]) [(.aload_n 0, 1)] ⟨dX1_tree_124, rfl⟩ rfl ?_
                    refine t_gA C 249 25 128 dX1_tree_125 rfl rfl rfl rfl rfl q2237 (fun _ _ _ => rfl) ?_
                    refine t_b C (pc' := 130) (L' := [(0, vA (some o)), (2, vI s15)]) (st' := [vI 0, vI s15, vA (some (o + 1 + 25))]) [(.iload_n 2, 1), (.iconst 0, 1)] ⟨dX1_tree_128, dX1_tree_129, rfl⟩ rfl ?_
                    refine t_iast C 131 dX1_tree_130 rfl hw.1 (fun T23 eT23 => ?_)
                    replace hw := hw.2 T23 eT23
                    refine t_b C (pc' := 134) (L' := [(2, vI (s15 + 1)), (0, vA (some o))]) (st' := []) [(.iinc 2 1, 3)] ⟨dX1_tree_131, rfl⟩ rfl ?_
                    refine t_goto C 119 dX1_tree_134 rfl ?_
                    refine t_sub C (L' := [(0, vA (some o)), (2, vI (s15 + 1))]) [1, 0] rfl ?_
                    obtain ⟨m9, hm9, hw⟩ := hw
                    exact ih15 m9 hm9 (s15 + 1) T23 hw
              exact key15 n15 0 T13 hI15
            · replace hw := hw.2 hc14
              refine t_b C (pc' := 76) (L' := [(0, vA (some o)), (2, vI s12)]) (st' := [vA (some o)]) [(.aload_n 0, 1)] ⟨dX1_tree_75, rfl⟩ rfl ?_
              refine t_gA C 243 19 79 dX1_tree_76 rfl rfl rfl rfl rfl q2231 (fun _ _ _ => rfl) ?_
              refine t_b C (pc' := 81) (L' := [(0, vA (some o)), (2, vI s12)]) (st' := [vA (some o), vI s12, vA (some (o + 1 + 19))]) [(.iload_n 2, 1), (.aload_n 0, 1)] ⟨dX1_tree_79, dX1_tree_80, rfl⟩ rfl ?_
              refine t_gA C 246 22 84 dX1_tree_81 rfl rfl rfl rfl rfl q2234 (fun _ _ _ => rfl) ?_
              refine t_b C (pc' := 85) (L' := [(0, vA (some o)), (2, vI s12)]) (st' := [vI s12, vA (some (o + 1 + 22)), vI s12, vA (some (o + 1 + 19))]) [(.iload_n 2, 1)] ⟨dX1_tree_84, rfl⟩ rfl ?_
              refine t_iald C 86 dX1_tree_85 rfl hw.1 ?_
              replace hw := hw.2
              refine t_iast C 87 dX1_tree_86 rfl hw.1 (fun T24 eT24 => ?_)
              replace hw := hw.2 T24 eT24
              refine t_b C (pc' := 88) (L' := [(0, vA (some o)), (2, vI s12)]) (st' := [vA (some o)]) [(.aload_n 0, 1)] ⟨dX1_tree_87, rfl⟩ rfl ?_
              refine t_gA C 244 20 91 dX1_tree_88 rfl rfl rfl rfl rfl q2232 (fun _ _ _ => rfl) ?_
              refine t_b C (pc' := 93) (L' := [(0, vA (some o)), (2, vI s12)]) (st' := [vA (some o), vI s12, vA (some (o + 1 + 20))]) [(.iload_n 2, 1), (.aload_n 0, 1)] ⟨dX1_tree_91, dX1_tree_92, rfl⟩ rfl ?_
              refine t_gA C 247 23 96 dX1_tree_93 rfl rfl rfl rfl rfl q2235 (fun _ _ _ => rfl) ?_
              refine t_b C (pc' := 97) (L' := [(0, vA (some o)), (2, vI s12)]) (st' := [vI s12, vA (some (o + 1 + 23)), vI s12, vA (some (o + 1 + 20))]) [(.iload_n 2, 1)] ⟨dX1_tree_96, rfl⟩ rfl ?_
              refine t_iald C 98 dX1_tree_97 rfl hw.1 ?_
              replace hw := hw.2
              refine t_iast C 99 dX1_tree_98 rfl hw.1 (fun T25 eT25 => ?_)
              replace hw := hw.2 T25 eT25
              refine t_b C (pc' := 100) (L' := [(0, vA (some o)), (2, vI s12)]) (st' := [vA (some o)]) [(.aload_n 0, 1)] ⟨dX1_tree_99, rfl⟩ rfl ?_
              refine t_gA C 245 21 103 dX1_tree_100 rfl rfl rfl rfl rfl q2233 (fun _ _ _ => rfl) ?_
              refine t_b C (pc' := 105) (L' := [(0, vA (some o)), (2, vI s12)]) (st' := [vA (some o), vI s12, vA (some (o + 1 + 21))]) [(.iload_n 2, 1), (.aload_n 0, 1)] ⟨dX1_tree_103, dX1_tree_104, rfl⟩ rfl ?_
              refine t_gA C 248 24 108 dX1_tree_105 rfl rfl rfl rfl rfl q2236 (fun _ _ _ => rfl) ?_
              refine t_b C (pc' := 109) (L' := [(0, vA (some o)), (2, vI s12)]) (st' := [vI s12, vA (some (o + 1 + 24)), vI s12, vA (some (o + 1 + 21))]) [(.iload_n 2, 1)] ⟨dX1_tree_108, rfl⟩ rfl ?_
              refine t_iald C 110 dX1_tree_109 rfl hw.1 ?_
              replace hw := hw.2
              refine t_iast C 111 dX1_tree_110 rfl hw.1 (fun T26 eT26 => ?_)
              replace hw := hw.2 T26 eT26
              refine t_b C (pc' := 114) (L' := [(2, vI (s12 + 1)), (0, vA (some o))]) (st' := []) [(.iinc 2 1, 3)] ⟨dX1_tree_111, rfl⟩ rfl ?_
              refine t_goto C 67 dX1_tree_114 rfl ?_
              refine t_sub C (L' := [(0, vA (some o)), (2, vI (s12 + 1))]) [1, 0] rfl ?_
              obtain ⟨m9, hm9, hw⟩ := hw
              exact ih12 m9 hm9 (s12 + 1) T26 hw
        exact key12 n12 0 T11 hI12
      · replace hw := hw.2 hc10
        refine t_b C (pc' := 53) (L' := [(0, vA (some o)), (1, vI p0)]) (st' := [vI 9, vA (some o)]) [(.aload_n 0, 1), (.bipush 9, 2)] ⟨dX1_tree_50, dX1_tree_51, rfl⟩ rfl ?_
        refine t_callVI C 56 [vI 9] [] dX1_tree_53 rfl (ok_X1_refuse hG hw) q2434 q2436 qs70 q159 q2437 hd_X1_refuse ⟨rfl, rfl, rfl⟩ (fun r28 T27 hw => ?_)
        exact t_iret C dX1_tree_56 ⟨_, rfl, hw⟩
    · replace hw := hw.1 hc4
      refine t_b C (pc' := 27) (L' := [(0, vA (some o)), (1, vI p0)]) (st' := [vI 2, vA (some o)]) [(.aload_n 0, 1), (.iconst 2, 1)] ⟨dX1_tree_25, dX1_tree_26, rfl⟩ rfl ?_
      refine t_callVI C 30 [vI 2] [] dX1_tree_27 rfl (ok_X1_refuse hG hw) q2434 q2436 qs70 q159 q2437 hd_X1_refuse ⟨rfl, rfl, rfl⟩ (fun r30 T29 hw => ?_)
      exact t_iret C dX1_tree_30 ⟨_, rfl, hw⟩
  · replace hw := hw.1 hc3
    refine t_b C (pc' := 14) (L' := [(0, vA (some o)), (1, vI p0)]) (st' := [vI 1, vA (some o)]) [(.aload_n 0, 1), (.iconst 1, 1)] ⟨dX1_tree_12, dX1_tree_13, rfl⟩ rfl ?_
    refine t_callVI C 17 [vI 1] [] dX1_tree_14 rfl (ok_X1_refuse hG hw) q2434 q2436 qs70 q159 q2437 hd_X1_refuse ⟨rfl, rfl, rfl⟩ (fun r32 T31 hw => ?_)
    exact t_iret C dX1_tree_17 ⟨_, rfl, hw⟩
def wp_X1_value (p0 : Int32) (p1 : Int32) (T : TS) (Q : Int32 → TS → Prop) : Prop :=
  wp_X1_hasTree  T fun r2 T1 =>
  ((r2 = 0 →
  wp_X1_refuse 3 T1 fun r12 T11 =>
  Q r12 T11) ∧ (¬ r2 = 0 →
  wp_X1_isInstance p0 p1 T1 fun r5 T4 =>
  ((r5 = 0 →
  wp_X1_refuse 4 T4 fun r8 T7 =>
  Q r8 T7) ∧ (¬ r5 = 0 →
  tix 28 40 ((8 * p0) + p1) ∧
  wp_X1_gives (T4.a 28 (ni ((8 * p0) + p1))) T4 fun r10 T9 =>
  Q r10 T9))))
theorem hd_X1_value : yX1_value.cls = RX1 ∧ yX1_value.cls ≠ "java/lang/invoke/MethodHandle" ∧ yX1_value.cls ≠ "java/lang/invoke/VarHandle" ∧ (parseMethodDescriptor yX1_value.desc).map (fun d => d.parameters.length) = some 2 := by decide +kernel
theorem ok_X1_value {l : Launch} {D : va_G} {s0 : S0} (hG : G0 D s0) {o : Nat} {p0 : Int32} {p1 : Int32} {T : TS} {Q : Int32 → TS → Prop} (hw : wp_X1_value p0 p1 T Q) : OKt l D s0 o yX1_value cX1_value 3 (some .int) 3 65 [vA (some o), vI p0, vI p1] T (TI Q) := by
  refine t_met hG rfl rfl (L0 := [(0, vA (some o)), (1, vI p0), (2, vI p1)]) rfl rfl ?_
  intro h K C
  unfold wp_X1_value at hw
  refine t_b C (pc' := 1) (L' := [(0, vA (some o)), (1, vI p0), (2, vI p1)]) (st' := [vA (some o)]) [(.aload_n 0, 1)] ⟨dX1_value_0, rfl⟩ rfl ?_
  refine t_callVI C 4 [] [] dX1_value_1 rfl (ok_X1_hasTree hG hw) q2849 q2851 qs148 q159 q2852 hd_X1_hasTree ⟨rfl, rfl, rfl⟩ (fun r2 T1 hw => ?_)
  refine t_if_ne C 13 7 dX1_value_4 rfl rfl (fun hc3 => ?_) (fun hc3 => ?_)
  · replace hw := hw.2 hc3
    refine t_b C (pc' := 16) (L' := [(0, vA (some o)), (1, vI p0), (2, vI p1)]) (st' := [vI p1, vI p0, vA (some o)]) [(.aload_n 0, 1), (.iload_n 1, 1), (.iload_n 2, 1)] ⟨dX1_value_13, dX1_value_14, dX1_value_15, rfl⟩ rfl ?_
    refine t_callVI C 19 [vI p0, vI p1] [] dX1_value_16 rfl (ok_X1_isInstance hG hw) q2774 q2776 qs133 q159 q2777 hd_X1_isInstance ⟨rfl, rfl, rfl⟩ (fun r5 T4 hw => ?_)
    refine t_if_eq C 40 22 dX1_value_19 rfl rfl (fun hc6 => ?_) (fun hc6 => ?_)
    · replace hw := hw.1 hc6
      refine t_b C (pc' := 42) (L' := [(0, vA (some o)), (1, vI p0), (2, vI p1)]) (st' := [vI 4, vA (some o)]) [(.aload_n 0, 1), (.iconst 4, 1)] ⟨dX1_value_40, dX1_value_41, rfl⟩ rfl ?_
      refine t_callVI C 45 [vI 4] [] dX1_value_42 rfl (ok_X1_refuse hG hw) q2434 q2436 qs70 q159 q2437 hd_X1_refuse ⟨rfl, rfl, rfl⟩ (fun r8 T7 hw => ?_)
      exact t_iret C dX1_value_45 ⟨_, rfl, hw⟩
    · replace hw := hw.2 hc6
      refine t_b C (pc' := 24) (L' := [(0, vA (some o)), (1, vI p0), (2, vI p1)]) (st' := [vA (some o), vA (some o)]) [(.aload_n 0, 1), (.aload_n 0, 1)] ⟨dX1_value_22, dX1_value_23, rfl⟩ rfl ?_
      refine t_gA C 258 28 27 dX1_value_24 rfl rfl rfl rfl rfl q2246 (fun _ _ _ => rfl) ?_
      refine t_b C (pc' := 33) (L' := [(0, vA (some o)), (1, vI p0), (2, vI p1)]) (st' := [vI ((8 * p0) + p1), vA (some (o + 1 + 28)), vA (some o)]) [(.bipush 8, 2), (.iload_n 1, 1), (.imul, 1), (.iload_n 2, 1), (.iadd, 1)] ⟨dX1_value_27, dX1_value_29, dX1_value_30, dX1_value_31, dX1_value_32, rfl⟩ rfl ?_
      refine t_iald C 34 dX1_value_33 rfl hw.1 ?_
      replace hw := hw.2
      refine t_callVI C 37 [vI (T4.a 28 (ni ((8 * p0) + p1)))] [] dX1_value_34 rfl (ok_X1_gives hG hw) q2589 q2591 qs100 q159 q2592 hd_X1_gives ⟨rfl, rfl, rfl⟩ (fun r10 T9 hw => ?_)
      refine t_goto C 45 dX1_value_37 rfl ?_
      exact t_iret C dX1_value_45 ⟨_, rfl, hw⟩
  · replace hw := hw.1 hc3
    refine t_b C (pc' := 9) (L' := [(0, vA (some o)), (1, vI p0), (2, vI p1)]) (st' := [vI 3, vA (some o)]) [(.aload_n 0, 1), (.iconst 3, 1)] ⟨dX1_value_7, dX1_value_8, rfl⟩ rfl ?_
    refine t_callVI C 12 [vI 3] [] dX1_value_9 rfl (ok_X1_refuse hG hw) q2434 q2436 qs70 q159 q2437 hd_X1_refuse ⟨rfl, rfl, rfl⟩ (fun r12 T11 hw => ?_)
    exact t_iret C dX1_value_12 ⟨_, rfl, hw⟩
def wp_X1_visit (p0 : Int32) (p1 : Int32) (T : TS) (Q : Int32 → TS → Prop) : Prop :=
  wp_X1_isAttribute p0 p1 T fun r2 T1 =>
  ((r2 = 0 →
  wp_X1_refuse 4 T1 fun r14 T13 =>
  Q r14 T13) ∧ (¬ r2 = 0 →
  wp_X1_isSelf p0 T1 fun r5 T4 =>
  ((r5 = 0 →
  wp_X1_laysVisits p0 T4 fun T7 =>
  tix 11 40 ((8 * p0) + p1) ∧
  wp_X1_gives (T7.a 11 (ni ((8 * p0) + p1))) T7 fun r10 T9 =>
  Q r10 T9) ∧ (¬ r5 = 0 →
  wp_X1_refuse 7 T4 fun r12 T11 =>
  Q r12 T11))))
theorem hd_X1_visit : yX1_visit.cls = RX1 ∧ yX1_visit.cls ≠ "java/lang/invoke/MethodHandle" ∧ yX1_visit.cls ≠ "java/lang/invoke/VarHandle" ∧ (parseMethodDescriptor yX1_visit.desc).map (fun d => d.parameters.length) = some 2 := by decide +kernel
theorem ok_X1_visit {l : Launch} {D : va_G} {s0 : S0} (hG : G0 D s0) {o : Nat} {p0 : Int32} {p1 : Int32} {T : TS} {Q : Int32 → TS → Prop} (hw : wp_X1_visit p0 p1 T Q) : OKt l D s0 o yX1_visit cX1_visit 3 (some .int) 5 112 [vA (some o), vI p0, vI p1] T (TI Q) := by
  refine t_met hG rfl rfl (L0 := [(0, vA (some o)), (1, vI p0), (2, vI p1)]) rfl rfl ?_
  intro h K C
  unfold wp_X1_visit at hw
  refine t_b C (pc' := 3) (L' := [(0, vA (some o)), (1, vI p0), (2, vI p1)]) (st' := [vI p1, vI p0, vA (some o)]) [(.aload_n 0, 1), (.iload_n 1, 1), (.iload_n 2, 1)] ⟨dX1_visit_0, dX1_visit_1, dX1_visit_2, rfl⟩ rfl ?_
  refine t_callVI C 6 [vI p0, vI p1] [] dX1_visit_3 rfl (ok_X1_isAttribute hG hw) q2665 q2667 qs113 q159 q2668 hd_X1_isAttribute ⟨rfl, rfl, rfl⟩ (fun r2 T1 hw => ?_)
  refine t_if_ne C 15 9 dX1_visit_6 rfl rfl (fun hc3 => ?_) (fun hc3 => ?_)
  · replace hw := hw.2 hc3
    refine t_b C (pc' := 17) (L' := [(0, vA (some o)), (1, vI p0), (2, vI p1)]) (st' := [vI p0, vA (some o)]) [(.aload_n 0, 1), (.iload_n 1, 1)] ⟨dX1_visit_15, dX1_visit_16, rfl⟩ rfl ?_
    refine t_callVI C 20 [vI p0] [] dX1_visit_17 rfl (ok_X1_isSelf hG hw) q2613 q2615 qs103 q159 q2616 hd_X1_isSelf ⟨rfl, rfl, rfl⟩ (fun r5 T4 hw => ?_)
    refine t_if_eq C 30 23 dX1_visit_20 rfl rfl (fun hc6 => ?_) (fun hc6 => ?_)
    · replace hw := hw.1 hc6
      refine t_b C (pc' := 32) (L' := [(0, vA (some o)), (1, vI p0), (2, vI p1)]) (st' := [vI p0, vA (some o)]) [(.aload_n 0, 1), (.iload_n 1, 1)] ⟨dX1_visit_30, dX1_visit_31, rfl⟩ rfl ?_
      refine t_callVV C 35 [vI p0] [] dX1_visit_32 rfl (ok_X1_laysVisits hG hw) q2617 q2619 qs104 q159 q2620 hd_X1_laysVisits ⟨rfl, rfl, rfl⟩ (fun T7 hw => ?_)
      refine t_b C (pc' := 37) (L' := [(0, vA (some o)), (1, vI p0), (2, vI p1)]) (st' := [vA (some o), vA (some o)]) [(.aload_n 0, 1), (.aload_n 0, 1)] ⟨dX1_visit_35, dX1_visit_36, rfl⟩ rfl ?_
      refine t_gA C 229 11 40 dX1_visit_37 rfl rfl rfl rfl rfl q2217 (fun _ _ _ => rfl) ?_
      refine t_b C (pc' := 46) (L' := [(0, vA (some o)), (1, vI p0), (2, vI p1)]) (st' := [vI ((8 * p0) + p1), vA (some (o + 1 + 11)), vA (some o)]) [(.bipush 8, 2), (.iload_n 1, 1), (.imul, 1), (.iload_n 2, 1), (.iadd, 1)] ⟨dX1_visit_40, dX1_visit_42, dX1_visit_43, dX1_visit_44, dX1_visit_45, rfl⟩ rfl ?_
      refine t_iald C 47 dX1_visit_46 rfl hw.1 ?_
      replace hw := hw.2
      refine t_callVI C 50 [vI (T7.a 11 (ni ((8 * p0) + p1)))] [] dX1_visit_47 rfl (ok_X1_gives hG hw) q2589 q2591 qs100 q159 q2592 hd_X1_gives ⟨rfl, rfl, rfl⟩ (fun r10 T9 hw => ?_)
      exact t_iret C dX1_visit_50 ⟨_, rfl, hw⟩
    · replace hw := hw.2 hc6
      refine t_b C (pc' := 26) (L' := [(0, vA (some o)), (1, vI p0), (2, vI p1)]) (st' := [vI 7, vA (some o)]) [(.aload_n 0, 1), (.bipush 7, 2)] ⟨dX1_visit_23, dX1_visit_24, rfl⟩ rfl ?_
      refine t_callVI C 29 [vI 7] [] dX1_visit_26 rfl (ok_X1_refuse hG hw) q2434 q2436 qs70 q159 q2437 hd_X1_refuse ⟨rfl, rfl, rfl⟩ (fun r12 T11 hw => ?_)
      exact t_iret C dX1_visit_29 ⟨_, rfl, hw⟩
  · replace hw := hw.1 hc3
    refine t_b C (pc' := 11) (L' := [(0, vA (some o)), (1, vI p0), (2, vI p1)]) (st' := [vI 4, vA (some o)]) [(.aload_n 0, 1), (.iconst 4, 1)] ⟨dX1_visit_9, dX1_visit_10, rfl⟩ rfl ?_
    refine t_callVI C 14 [vI 4] [] dX1_visit_11 rfl (ok_X1_refuse hG hw) q2434 q2436 qs70 q159 q2437 hd_X1_refuse ⟨rfl, rfl, rfl⟩ (fun r14 T13 hw => ?_)
    exact t_iret C dX1_visit_14 ⟨_, rfl, hw⟩
