set_option maxRecDepth 100000
set_option maxHeartbeats 4000000
section LAWC
variable {l : Launch} {D : va_G} {s0 : S0} {mn : String} {mc0 ms0 : Nat} {K : KT} {b N m o jn tpa : Nat} {xs : Nat → Int32} {T : TS} {g : AH} {X : AX} {i : Int32}
theorem lc_status {mcG msG : Nat} (C : Cx l D s0 cL_law "RuleShuttleLaw" mn 4 2048 88096 mc0 ms0 (some .boolean) LQ K) (hG : G0 D s0) (E : LE s0 b N m xs) (I0 : LI s0 m o jn tpa T g X) (hi : ∀ j : Int32, j = 1 ∨ j = 2 ∨ j = 3 ∨ j = 4 ∨ j = 5 → ¬ (i + j < 0 ∨ N ≤ (i + j).toNatClampNeg)) (hc : mcG ≤ g.rc) (hs : msG ≤ g.rs)
    (k : ∀ T2 g2, LI s0 m o jn tpa T2 g2 X → g2.rc = g.rc - mcG → g2.rs = g.rs - msG → K 967 [(0, vA (some b)), (1, vA (some o)), (2, vA (some m)), (3, vI i)] [] (mix s0 m T2 g2)) : K 156 [(0, vA (some b)), (1, vA (some o)), (2, vA (some m)), (3, vI i)] [] (mix s0 m T g) := by
  have hH : G0 D (sH s0 m) := hG
  refine x_b C (pc' := 157) (L' := [(0, vA (some b)), (1, vA (some o)), (2, vA (some m)), (3, vI i)]) (st' := [vA (some o)]) [(.aload_n 1, 1)] ⟨dL_law_156, rfl⟩ rfl ?_
  have hw : wp_X0_status o  (g.srm mcG msG) (fun v9 h9 => v9 = X.st ∧ CRep h9.c o jn tpa X) := q_status (h := g.srm mcG msG) I0.R ⟨rfl, I0.R⟩
  refine px_cVh C 1 160 (mc2 := mcG) (ms2 := msG) [] [] dL_law_157 rfl E.no E.hm I0.Z I0.B (ok_X0_status hH hw) ⟨hc, hs⟩ q273 q274 q275 q158 q276 rfl hd_X0_status ⟨rfl, rfl, rfl⟩ ⟨o, rfl, I0.R.B.k⟩ (fun v1 g1 g2 hq1 e2 hz2 hb2 => ?_)
  obtain ⟨r1, rfl, er1, R1⟩ := hq1
  refine x_b C (pc' := 161) (L' := [(0, vA (some b)), (1, vA (some o)), (2, vA (some m)), (3, vI i)]) (st' := [vA (some m), vI r1]) [(.aload_n 2, 1)] ⟨dL_law_160, rfl⟩ rfl ?_
  refine px_cVt C 164 [] [vI r1] dL_law_161 rfl (ok_X1_status hG (Q := fun v9 U => v9 = X.st ∧ TwRep U X) (pt_status I0.W (fun U W9 => ⟨rfl, W9⟩))) q2415 q2416 q2417 q159 q2418 hd_X1_status ⟨rfl, rfl, rfl⟩ (fun v2 T2 hq2 => ?_)
  obtain ⟨r2, rfl, er2, W2⟩ := hq2
  refine x_icmp_eq C 967 167 dL_law_164 rfl rfl (fun _ => ?_) (fun h9 => absurd (er1.trans er2.symm) h9)
  obtain ⟨n1, n2, n3⟩ := LI.next e2 R1 W2 hz2 hb2
  exact k T2 g2 n1 n2 n3
theorem lc_feed {mcG msG : Nat} (C : Cx l D s0 cL_law "RuleShuttleLaw" mn 4 2048 88096 mc0 ms0 (some .boolean) LQ K) (hG : G0 D s0) (E : LE s0 b N m xs) (I0 : LI s0 m o jn tpa T g X) (hi : ∀ j : Int32, j = 1 ∨ j = 2 ∨ j = 3 ∨ j = 4 ∨ j = 5 → ¬ (i + j < 0 ∨ N ≤ (i + j).toNatClampNeg)) (hc : mcG ≤ g.rc) (hs : msG ≤ g.rs)
    (k : ∀ T2 g2, LI s0 m o jn tpa T2 g2 (xFeed X (xs (ni (i + 1))) (xs (ni (i + 2))) (xs (ni (i + 3))) (xs (ni (i + 4))) (xs (ni (i + 5)))) → g2.rc = g.rc - mcG → g2.rs = g.rs - msG → K 967 [(0, vA (some b)), (1, vA (some o)), (2, vA (some m)), (3, vI i)] [] (mix s0 m T2 g2)) : K 169 [(0, vA (some b)), (1, vA (some o)), (2, vA (some m)), (3, vI i)] [] (mix s0 m T g) := by
  have hH : G0 D (sH s0 m) := hG
  refine x_b C (pc' := 174) (L' := [(0, vA (some b)), (1, vA (some o)), (2, vA (some m)), (3, vI i)]) (st' := [vI (i + 1), vA (some b), vA (some o)]) [(.aload_n 1, 1), (.aload_n 0, 1), (.iload_n 3, 1), (.iconst 1, 1), (.iadd, 1)] ⟨dL_law_169, dL_law_170, dL_law_171, dL_law_172, dL_law_173, rfl⟩ rfl ?_
  refine px_sald C 175 dL_law_174 rfl E.X (hi 1 (by decide)) ?_
  refine x_b C (pc' := 179) (L' := [(0, vA (some b)), (1, vA (some o)), (2, vA (some m)), (3, vI i)]) (st' := [vI (i + 2), vA (some b), vI (xs (ni (i + 1))), vA (some o)]) [(.aload_n 0, 1), (.iload_n 3, 1), (.iconst 2, 1), (.iadd, 1)] ⟨dL_law_175, dL_law_176, dL_law_177, dL_law_178, rfl⟩ rfl ?_
  refine px_sald C 180 dL_law_179 rfl E.X (hi 2 (by decide)) ?_
  refine x_b C (pc' := 184) (L' := [(0, vA (some b)), (1, vA (some o)), (2, vA (some m)), (3, vI i)]) (st' := [vI (i + 3), vA (some b), vI (xs (ni (i + 2))), vI (xs (ni (i + 1))), vA (some o)]) [(.aload_n 0, 1), (.iload_n 3, 1), (.iconst 3, 1), (.iadd, 1)] ⟨dL_law_180, dL_law_181, dL_law_182, dL_law_183, rfl⟩ rfl ?_
  refine px_sald C 185 dL_law_184 rfl E.X (hi 3 (by decide)) ?_
  refine x_b C (pc' := 189) (L' := [(0, vA (some b)), (1, vA (some o)), (2, vA (some m)), (3, vI i)]) (st' := [vI (i + 4), vA (some b), vI (xs (ni (i + 3))), vI (xs (ni (i + 2))), vI (xs (ni (i + 1))), vA (some o)]) [(.aload_n 0, 1), (.iload_n 3, 1), (.iconst 4, 1), (.iadd, 1)] ⟨dL_law_185, dL_law_186, dL_law_187, dL_law_188, rfl⟩ rfl ?_
  refine px_sald C 190 dL_law_189 rfl E.X (hi 4 (by decide)) ?_
  refine x_b C (pc' := 194) (L' := [(0, vA (some b)), (1, vA (some o)), (2, vA (some m)), (3, vI i)]) (st' := [vI (i + 5), vA (some b), vI (xs (ni (i + 4))), vI (xs (ni (i + 3))), vI (xs (ni (i + 2))), vI (xs (ni (i + 1))), vA (some o)]) [(.aload_n 0, 1), (.iload_n 3, 1), (.iconst 5, 1), (.iadd, 1)] ⟨dL_law_190, dL_law_191, dL_law_192, dL_law_193, rfl⟩ rfl ?_
  refine px_sald C 195 dL_law_194 rfl E.X (hi 5 (by decide)) ?_
  have hw : wp_X0_feed o (xs (ni (i + 1))) (xs (ni (i + 2))) (xs (ni (i + 3))) (xs (ni (i + 4))) (xs (ni (i + 5))) (g.srm mcG msG) (fun v9 h9 => v9 = (qFeed X) ∧ CRep h9.c o jn tpa (xFeed X (xs (ni (i + 1))) (xs (ni (i + 2))) (xs (ni (i + 3))) (xs (ni (i + 4))) (xs (ni (i + 5))))) := q_feed (h := g.srm mcG msG) I0.R (fun h9 R9 => ⟨rfl, R9⟩)
  refine px_cVh C 1 198 (mc2 := mcG) (ms2 := msG) [vI (xs (ni (i + 1))), vI (xs (ni (i + 2))), vI (xs (ni (i + 3))), vI (xs (ni (i + 4))), vI (xs (ni (i + 5)))] [] dL_law_195 rfl E.no E.hm I0.Z I0.B (ok_X0_feed hH hw) ⟨hc, hs⟩ q277 q278 q279 q158 q280 rfl hd_X0_feed ⟨rfl, rfl, rfl⟩ ⟨o, rfl, I0.R.B.k⟩ (fun v1 g1 g2 hq1 e2 hz2 hb2 => ?_)
  obtain ⟨r1, rfl, er1, R1⟩ := hq1
  refine x_b C (pc' := 203) (L' := [(0, vA (some b)), (1, vA (some o)), (2, vA (some m)), (3, vI i)]) (st' := [vI (i + 1), vA (some b), vA (some m), vI r1]) [(.aload_n 2, 1), (.aload_n 0, 1), (.iload_n 3, 1), (.iconst 1, 1), (.iadd, 1)] ⟨dL_law_198, dL_law_199, dL_law_200, dL_law_201, dL_law_202, rfl⟩ rfl ?_
  refine px_sald C 204 dL_law_203 rfl E.X (hi 1 (by decide)) ?_
  refine x_b C (pc' := 208) (L' := [(0, vA (some b)), (1, vA (some o)), (2, vA (some m)), (3, vI i)]) (st' := [vI (i + 2), vA (some b), vI (xs (ni (i + 1))), vA (some m), vI r1]) [(.aload_n 0, 1), (.iload_n 3, 1), (.iconst 2, 1), (.iadd, 1)] ⟨dL_law_204, dL_law_205, dL_law_206, dL_law_207, rfl⟩ rfl ?_
  refine px_sald C 209 dL_law_208 rfl E.X (hi 2 (by decide)) ?_
  refine x_b C (pc' := 213) (L' := [(0, vA (some b)), (1, vA (some o)), (2, vA (some m)), (3, vI i)]) (st' := [vI (i + 3), vA (some b), vI (xs (ni (i + 2))), vI (xs (ni (i + 1))), vA (some m), vI r1]) [(.aload_n 0, 1), (.iload_n 3, 1), (.iconst 3, 1), (.iadd, 1)] ⟨dL_law_209, dL_law_210, dL_law_211, dL_law_212, rfl⟩ rfl ?_
  refine px_sald C 214 dL_law_213 rfl E.X (hi 3 (by decide)) ?_
  refine x_b C (pc' := 218) (L' := [(0, vA (some b)), (1, vA (some o)), (2, vA (some m)), (3, vI i)]) (st' := [vI (i + 4), vA (some b), vI (xs (ni (i + 3))), vI (xs (ni (i + 2))), vI (xs (ni (i + 1))), vA (some m), vI r1]) [(.aload_n 0, 1), (.iload_n 3, 1), (.iconst 4, 1), (.iadd, 1)] ⟨dL_law_214, dL_law_215, dL_law_216, dL_law_217, rfl⟩ rfl ?_
  refine px_sald C 219 dL_law_218 rfl E.X (hi 4 (by decide)) ?_
  refine x_b C (pc' := 223) (L' := [(0, vA (some b)), (1, vA (some o)), (2, vA (some m)), (3, vI i)]) (st' := [vI (i + 5), vA (some b), vI (xs (ni (i + 4))), vI (xs (ni (i + 3))), vI (xs (ni (i + 2))), vI (xs (ni (i + 1))), vA (some m), vI r1]) [(.aload_n 0, 1), (.iload_n 3, 1), (.iconst 5, 1), (.iadd, 1)] ⟨dL_law_219, dL_law_220, dL_law_221, dL_law_222, rfl⟩ rfl ?_
  refine px_sald C 224 dL_law_223 rfl E.X (hi 5 (by decide)) ?_
  refine px_cVt C 227 [vI (xs (ni (i + 1))), vI (xs (ni (i + 2))), vI (xs (ni (i + 3))), vI (xs (ni (i + 4))), vI (xs (ni (i + 5)))] [vI r1] dL_law_224 rfl (ok_X1_feed hG (Q := fun v9 U => v9 = (qFeed X) ∧ TwRep U (xFeed X (xs (ni (i + 1))) (xs (ni (i + 2))) (xs (ni (i + 3))) (xs (ni (i + 4))) (xs (ni (i + 5))))) (pt_feed I0.W (fun U W9 => ⟨rfl, W9⟩))) q2419 q2420 q2421 q159 q2422 hd_X1_feed ⟨rfl, rfl, rfl⟩ (fun v2 T2 hq2 => ?_)
  obtain ⟨r2, rfl, er2, W2⟩ := hq2
  refine x_icmp_eq C 967 230 dL_law_227 rfl rfl (fun _ => ?_) (fun h9 => absurd (er1.trans er2.symm) h9)
  obtain ⟨n1, n2, n3⟩ := LI.next e2 R1 W2 hz2 hb2
  exact k T2 g2 n1 n2 n3
theorem lc_grammar {mcG msG : Nat} (C : Cx l D s0 cL_law "RuleShuttleLaw" mn 4 2048 88096 mc0 ms0 (some .boolean) LQ K) (hG : G0 D s0) (E : LE s0 b N m xs) (I0 : LI s0 m o jn tpa T g X) (hi : ∀ j : Int32, j = 1 ∨ j = 2 ∨ j = 3 ∨ j = 4 ∨ j = 5 → ¬ (i + j < 0 ∨ N ≤ (i + j).toNatClampNeg)) (hcG : inR (xs (ni (i + 1))) (X.m + 1) → 1000 + 194 * X.m ≤ mcG) (hsG : inR (xs (ni (i + 1))) (X.m + 1) → 5000 + 5146 * X.m ≤ msG) (hc : mcG ≤ g.rc) (hs : msG ≤ g.rs)
    (k : ∀ T2 g2, LI s0 m o jn tpa T2 g2 (xGrammar X (xs (ni (i + 1)))) → g2.rc = g.rc - mcG → g2.rs = g.rs - msG → K 967 [(0, vA (some b)), (1, vA (some o)), (2, vA (some m)), (3, vI i)] [] (mix s0 m T2 g2)) : K 232 [(0, vA (some b)), (1, vA (some o)), (2, vA (some m)), (3, vI i)] [] (mix s0 m T g) := by
  have hH : G0 D (sH s0 m) := hG
  refine x_b C (pc' := 237) (L' := [(0, vA (some b)), (1, vA (some o)), (2, vA (some m)), (3, vI i)]) (st' := [vI (i + 1), vA (some b), vA (some o)]) [(.aload_n 1, 1), (.aload_n 0, 1), (.iload_n 3, 1), (.iconst 1, 1), (.iadd, 1)] ⟨dL_law_232, dL_law_233, dL_law_234, dL_law_235, dL_law_236, rfl⟩ rfl ?_
  refine px_sald C 238 dL_law_237 rfl E.X (hi 1 (by decide)) ?_
  have hw : wp_X0_grammar o (xs (ni (i + 1))) (g.srm mcG msG) (fun v9 h9 => v9 = (qGrammar X (xs (ni (i + 1)))) ∧ CRep h9.c o jn tpa (xGrammar X (xs (ni (i + 1))))) := q_grammar (h := g.srm mcG msG) I0.R hcG hsG (fun h9 R9 => ⟨rfl, R9⟩)
  refine px_cVhW C 1 241 (mc2 := mcG) (ms2 := msG) [vI (xs (ni (i + 1)))] [] dL_law_238 rfl E.no E.hm I0.Z I0.B (ok_X0_grammar hH hw) ⟨hc, hs⟩ q289 q290 q291 q158 q292 rfl hd_X0_grammar ⟨rfl, rfl, rfl⟩ ⟨o, rfl, I0.R.B.k⟩ (fun v1 g1 g2 hq1 e2 hz2 hb2 => ?_)
  obtain ⟨r1, rfl, er1, R1⟩ := hq1
  refine x_b C (pc' := 246) (L' := [(0, vA (some b)), (1, vA (some o)), (2, vA (some m)), (3, vI i)]) (st' := [vI (i + 1), vA (some b), vA (some m), vI r1]) [(.aload_n 2, 1), (.aload_n 0, 1), (.iload_n 3, 1), (.iconst 1, 1), (.iadd, 1)] ⟨dL_law_241, dL_law_242, dL_law_243, dL_law_244, dL_law_245, rfl⟩ rfl ?_
  refine px_sald C 247 dL_law_246 rfl E.X (hi 1 (by decide)) ?_
  refine px_cVt C 250 [vI (xs (ni (i + 1)))] [vI r1] dL_law_247 rfl (ok_X1_grammar hG (Q := fun v9 U => v9 = (qGrammar X (xs (ni (i + 1)))) ∧ TwRep U (xGrammar X (xs (ni (i + 1))))) (pt_grammar I0.W (fun U W9 => ⟨rfl, W9⟩))) q2427 q2428 q2429 q159 q2430 hd_X1_grammar ⟨rfl, rfl, rfl⟩ (fun v2 T2 hq2 => ?_)
  obtain ⟨r2, rfl, er2, W2⟩ := hq2
  refine x_icmp_eq C 967 253 dL_law_250 rfl rfl (fun _ => ?_) (fun h9 => absurd (er1.trans er2.symm) h9)
  obtain ⟨n1, n2, n3⟩ := LI.next e2 R1 W2 hz2 hb2
  exact k T2 g2 n1 n2 n3
theorem lc_fault {mcG msG : Nat} (C : Cx l D s0 cL_law "RuleShuttleLaw" mn 4 2048 88096 mc0 ms0 (some .boolean) LQ K) (hG : G0 D s0) (E : LE s0 b N m xs) (I0 : LI s0 m o jn tpa T g X) (hi : ∀ j : Int32, j = 1 ∨ j = 2 ∨ j = 3 ∨ j = 4 ∨ j = 5 → ¬ (i + j < 0 ∨ N ≤ (i + j).toNatClampNeg)) (hc : mcG ≤ g.rc) (hs : msG ≤ g.rs)
    (k : ∀ T2 g2, LI s0 m o jn tpa T2 g2 X → g2.rc = g.rc - mcG → g2.rs = g.rs - msG → K 967 [(0, vA (some b)), (1, vA (some o)), (2, vA (some m)), (3, vI i)] [] (mix s0 m T2 g2)) : K 255 [(0, vA (some b)), (1, vA (some o)), (2, vA (some m)), (3, vI i)] [] (mix s0 m T g) := by
  have hH : G0 D (sH s0 m) := hG
  refine x_b C (pc' := 260) (L' := [(0, vA (some b)), (1, vA (some o)), (2, vA (some m)), (3, vI i)]) (st' := [vI (i + 1), vA (some b), vA (some o)]) [(.aload_n 1, 1), (.aload_n 0, 1), (.iload_n 3, 1), (.iconst 1, 1), (.iadd, 1)] ⟨dL_law_255, dL_law_256, dL_law_257, dL_law_258, dL_law_259, rfl⟩ rfl ?_
  refine px_sald C 261 dL_law_260 rfl E.X (hi 1 (by decide)) ?_
  have hw : wp_X0_fault o (xs (ni (i + 1))) (g.srm mcG msG) (fun v9 h9 => v9 = (if (xs (ni (i + 1))) = 0 then X.fk else if (xs (ni (i + 1))) = 1 then X.fp else -1) ∧ CRep h9.c o jn tpa X) := q_fault (h := g.srm mcG msG) I0.R ⟨rfl, I0.R⟩
  refine px_cVh C 1 264 (mc2 := mcG) (ms2 := msG) [vI (xs (ni (i + 1)))] [] dL_law_261 rfl E.no E.hm I0.Z I0.B (ok_X0_fault hH hw) ⟨hc, hs⟩ q285 q286 q287 q158 q288 rfl hd_X0_fault ⟨rfl, rfl, rfl⟩ ⟨o, rfl, I0.R.B.k⟩ (fun v1 g1 g2 hq1 e2 hz2 hb2 => ?_)
  obtain ⟨r1, rfl, er1, R1⟩ := hq1
  refine x_b C (pc' := 269) (L' := [(0, vA (some b)), (1, vA (some o)), (2, vA (some m)), (3, vI i)]) (st' := [vI (i + 1), vA (some b), vA (some m), vI r1]) [(.aload_n 2, 1), (.aload_n 0, 1), (.iload_n 3, 1), (.iconst 1, 1), (.iadd, 1)] ⟨dL_law_264, dL_law_265, dL_law_266, dL_law_267, dL_law_268, rfl⟩ rfl ?_
  refine px_sald C 270 dL_law_269 rfl E.X (hi 1 (by decide)) ?_
  refine px_cVt C 273 [vI (xs (ni (i + 1)))] [vI r1] dL_law_270 rfl (ok_X1_fault hG (Q := fun v9 U => v9 = (if (xs (ni (i + 1))) = 0 then X.fk else if (xs (ni (i + 1))) = 1 then X.fp else -1) ∧ TwRep U X) (pt_fault I0.W (fun U W9 => ⟨rfl, W9⟩))) q2593 q2594 q2595 q159 q2596 hd_X1_fault ⟨rfl, rfl, rfl⟩ (fun v2 T2 hq2 => ?_)
  obtain ⟨r2, rfl, er2, W2⟩ := hq2
  refine x_icmp_eq C 967 276 dL_law_273 rfl rfl (fun _ => ?_) (fun h9 => absurd (er1.trans er2.symm) h9)
  obtain ⟨n1, n2, n3⟩ := LI.next e2 R1 W2 hz2 hb2
  exact k T2 g2 n1 n2 n3
theorem lc_many {mcG msG : Nat} (C : Cx l D s0 cL_law "RuleShuttleLaw" mn 4 2048 88096 mc0 ms0 (some .boolean) LQ K) (hG : G0 D s0) (E : LE s0 b N m xs) (I0 : LI s0 m o jn tpa T g X) (hi : ∀ j : Int32, j = 1 ∨ j = 2 ∨ j = 3 ∨ j = 4 ∨ j = 5 → ¬ (i + j < 0 ∨ N ≤ (i + j).toNatClampNeg)) (hcG : 40 ≤ mcG) (hsG : 2000 ≤ msG) (hc : mcG ≤ g.rc) (hs : msG ≤ g.rs)
    (k : ∀ T2 g2, LI s0 m o jn tpa T2 g2 (X.ws (qMany X (xs (ni (i + 1)))).2) → g2.rc = g.rc - mcG → g2.rs = g.rs - msG → K 967 [(0, vA (some b)), (1, vA (some o)), (2, vA (some m)), (3, vI i)] [] (mix s0 m T2 g2)) : K 278 [(0, vA (some b)), (1, vA (some o)), (2, vA (some m)), (3, vI i)] [] (mix s0 m T g) := by
  have hH : G0 D (sH s0 m) := hG
  refine x_b C (pc' := 283) (L' := [(0, vA (some b)), (1, vA (some o)), (2, vA (some m)), (3, vI i)]) (st' := [vI (i + 1), vA (some b), vA (some o)]) [(.aload_n 1, 1), (.aload_n 0, 1), (.iload_n 3, 1), (.iconst 1, 1), (.iadd, 1)] ⟨dL_law_278, dL_law_279, dL_law_280, dL_law_281, dL_law_282, rfl⟩ rfl ?_
  refine px_sald C 284 dL_law_283 rfl E.X (hi 1 (by decide)) ?_
  have hw : wp_X0_many o (xs (ni (i + 1))) (g.srm mcG msG) (fun v9 h9 => v9 = (qMany X (xs (ni (i + 1)))).1 ∧ CRep h9.c o jn tpa (X.ws (qMany X (xs (ni (i + 1)))).2)) := q_many (h := g.srm mcG msG) I0.R hcG hsG (fun h9 R9 => ⟨rfl, R9⟩)
  refine px_cVh C 1 287 (mc2 := mcG) (ms2 := msG) [vI (xs (ni (i + 1)))] [] dL_law_284 rfl E.no E.hm I0.Z I0.B (ok_X0_many hH hw) ⟨hc, hs⟩ q1468 q1469 q1470 q158 q1471 rfl hd_X0_many ⟨rfl, rfl, rfl⟩ ⟨o, rfl, I0.R.B.k⟩ (fun v1 g1 g2 hq1 e2 hz2 hb2 => ?_)
  obtain ⟨r1, rfl, er1, R1⟩ := hq1
  refine x_b C (pc' := 292) (L' := [(0, vA (some b)), (1, vA (some o)), (2, vA (some m)), (3, vI i)]) (st' := [vI (i + 1), vA (some b), vA (some m), vI r1]) [(.aload_n 2, 1), (.aload_n 0, 1), (.iload_n 3, 1), (.iconst 1, 1), (.iadd, 1)] ⟨dL_law_287, dL_law_288, dL_law_289, dL_law_290, dL_law_291, rfl⟩ rfl ?_
  refine px_sald C 293 dL_law_292 rfl E.X (hi 1 (by decide)) ?_
  refine px_cVt C 296 [vI (xs (ni (i + 1)))] [vI r1] dL_law_293 rfl (ok_X1_many hG (Q := fun v9 U => v9 = (qMany X (xs (ni (i + 1)))).1 ∧ TwRep U (X.ws (qMany X (xs (ni (i + 1)))).2)) (pt_many I0.W (fun U W9 => ⟨rfl, W9⟩))) q2597 q2598 q2599 q159 q2600 hd_X1_many ⟨rfl, rfl, rfl⟩ (fun v2 T2 hq2 => ?_)
  obtain ⟨r2, rfl, er2, W2⟩ := hq2
  refine x_icmp_eq C 967 299 dL_law_296 rfl rfl (fun _ => ?_) (fun h9 => absurd (er1.trans er2.symm) h9)
  obtain ⟨n1, n2, n3⟩ := LI.next e2 R1 W2 hz2 hb2
  exact k T2 g2 n1 n2 n3
theorem lc_symbol {mcG msG : Nat} (C : Cx l D s0 cL_law "RuleShuttleLaw" mn 4 2048 88096 mc0 ms0 (some .boolean) LQ K) (hG : G0 D s0) (E : LE s0 b N m xs) (I0 : LI s0 m o jn tpa T g X) (hi : ∀ j : Int32, j = 1 ∨ j = 2 ∨ j = 3 ∨ j = 4 ∨ j = 5 → ¬ (i + j < 0 ∨ N ≤ (i + j).toNatClampNeg)) (hcG : 40 ≤ mcG) (hsG : 2000 ≤ msG) (hc : mcG ≤ g.rc) (hs : msG ≤ g.rs)
    (k : ∀ T2 g2, LI s0 m o jn tpa T2 g2 (X.ws (qSymbol X (xs (ni (i + 1))) (xs (ni (i + 2)))).2) → g2.rc = g.rc - mcG → g2.rs = g.rs - msG → K 967 [(0, vA (some b)), (1, vA (some o)), (2, vA (some m)), (3, vI i)] [] (mix s0 m T2 g2)) : K 301 [(0, vA (some b)), (1, vA (some o)), (2, vA (some m)), (3, vI i)] [] (mix s0 m T g) := by
  have hH : G0 D (sH s0 m) := hG
  refine x_b C (pc' := 306) (L' := [(0, vA (some b)), (1, vA (some o)), (2, vA (some m)), (3, vI i)]) (st' := [vI (i + 1), vA (some b), vA (some o)]) [(.aload_n 1, 1), (.aload_n 0, 1), (.iload_n 3, 1), (.iconst 1, 1), (.iadd, 1)] ⟨dL_law_301, dL_law_302, dL_law_303, dL_law_304, dL_law_305, rfl⟩ rfl ?_
  refine px_sald C 307 dL_law_306 rfl E.X (hi 1 (by decide)) ?_
  refine x_b C (pc' := 311) (L' := [(0, vA (some b)), (1, vA (some o)), (2, vA (some m)), (3, vI i)]) (st' := [vI (i + 2), vA (some b), vI (xs (ni (i + 1))), vA (some o)]) [(.aload_n 0, 1), (.iload_n 3, 1), (.iconst 2, 1), (.iadd, 1)] ⟨dL_law_307, dL_law_308, dL_law_309, dL_law_310, rfl⟩ rfl ?_
  refine px_sald C 312 dL_law_311 rfl E.X (hi 2 (by decide)) ?_
  have hw : wp_X0_symbol o (xs (ni (i + 1))) (xs (ni (i + 2))) (g.srm mcG msG) (fun v9 h9 => v9 = (qSymbol X (xs (ni (i + 1))) (xs (ni (i + 2)))).1 ∧ CRep h9.c o jn tpa (X.ws (qSymbol X (xs (ni (i + 1))) (xs (ni (i + 2)))).2)) := q_symbol (h := g.srm mcG msG) I0.R hcG hsG (fun h9 R9 => ⟨rfl, R9⟩)
  refine px_cVh C 1 315 (mc2 := mcG) (ms2 := msG) [vI (xs (ni (i + 1))), vI (xs (ni (i + 2)))] [] dL_law_312 rfl E.no E.hm I0.Z I0.B (ok_X0_symbol hH hw) ⟨hc, hs⟩ q1498 q1499 q1500 q158 q1501 rfl hd_X0_symbol ⟨rfl, rfl, rfl⟩ ⟨o, rfl, I0.R.B.k⟩ (fun v1 g1 g2 hq1 e2 hz2 hb2 => ?_)
  obtain ⟨r1, rfl, er1, R1⟩ := hq1
  refine x_b C (pc' := 320) (L' := [(0, vA (some b)), (1, vA (some o)), (2, vA (some m)), (3, vI i)]) (st' := [vI (i + 1), vA (some b), vA (some m), vI r1]) [(.aload_n 2, 1), (.aload_n 0, 1), (.iload_n 3, 1), (.iconst 1, 1), (.iadd, 1)] ⟨dL_law_315, dL_law_316, dL_law_317, dL_law_318, dL_law_319, rfl⟩ rfl ?_
  refine px_sald C 321 dL_law_320 rfl E.X (hi 1 (by decide)) ?_
  refine x_b C (pc' := 325) (L' := [(0, vA (some b)), (1, vA (some o)), (2, vA (some m)), (3, vI i)]) (st' := [vI (i + 2), vA (some b), vI (xs (ni (i + 1))), vA (some m), vI r1]) [(.aload_n 0, 1), (.iload_n 3, 1), (.iconst 2, 1), (.iadd, 1)] ⟨dL_law_321, dL_law_322, dL_law_323, dL_law_324, rfl⟩ rfl ?_
  refine px_sald C 326 dL_law_325 rfl E.X (hi 2 (by decide)) ?_
  refine px_cVt C 329 [vI (xs (ni (i + 1))), vI (xs (ni (i + 2)))] [vI r1] dL_law_326 rfl (ok_X1_symbol hG (Q := fun v9 U => v9 = (qSymbol X (xs (ni (i + 1))) (xs (ni (i + 2)))).1 ∧ TwRep U (X.ws (qSymbol X (xs (ni (i + 1))) (xs (ni (i + 2)))).2)) (pt_symbol I0.W (fun U W9 => ⟨rfl, W9⟩))) q2605 q2606 q2607 q159 q2608 hd_X1_symbol ⟨rfl, rfl, rfl⟩ (fun v2 T2 hq2 => ?_)
  obtain ⟨r2, rfl, er2, W2⟩ := hq2
  refine x_icmp_eq C 967 332 dL_law_329 rfl rfl (fun _ => ?_) (fun h9 => absurd (er1.trans er2.symm) h9)
  obtain ⟨n1, n2, n3⟩ := LI.next e2 R1 W2 hz2 hb2
  exact k T2 g2 n1 n2 n3
theorem lc_production {mcG msG : Nat} (C : Cx l D s0 cL_law "RuleShuttleLaw" mn 4 2048 88096 mc0 ms0 (some .boolean) LQ K) (hG : G0 D s0) (E : LE s0 b N m xs) (I0 : LI s0 m o jn tpa T g X) (hi : ∀ j : Int32, j = 1 ∨ j = 2 ∨ j = 3 ∨ j = 4 ∨ j = 5 → ¬ (i + j < 0 ∨ N ≤ (i + j).toNatClampNeg)) (hc : mcG ≤ g.rc) (hs : msG ≤ g.rs)
    (k : ∀ T2 g2, LI s0 m o jn tpa T2 g2 (X.ws (qProduction X (xs (ni (i + 1))) (xs (ni (i + 2)))).2) → g2.rc = g.rc - mcG → g2.rs = g.rs - msG → K 967 [(0, vA (some b)), (1, vA (some o)), (2, vA (some m)), (3, vI i)] [] (mix s0 m T2 g2)) : K 334 [(0, vA (some b)), (1, vA (some o)), (2, vA (some m)), (3, vI i)] [] (mix s0 m T g) := by
  have hH : G0 D (sH s0 m) := hG
  refine x_b C (pc' := 339) (L' := [(0, vA (some b)), (1, vA (some o)), (2, vA (some m)), (3, vI i)]) (st' := [vI (i + 1), vA (some b), vA (some o)]) [(.aload_n 1, 1), (.aload_n 0, 1), (.iload_n 3, 1), (.iconst 1, 1), (.iadd, 1)] ⟨dL_law_334, dL_law_335, dL_law_336, dL_law_337, dL_law_338, rfl⟩ rfl ?_
  refine px_sald C 340 dL_law_339 rfl E.X (hi 1 (by decide)) ?_
  refine x_b C (pc' := 344) (L' := [(0, vA (some b)), (1, vA (some o)), (2, vA (some m)), (3, vI i)]) (st' := [vI (i + 2), vA (some b), vI (xs (ni (i + 1))), vA (some o)]) [(.aload_n 0, 1), (.iload_n 3, 1), (.iconst 2, 1), (.iadd, 1)] ⟨dL_law_340, dL_law_341, dL_law_342, dL_law_343, rfl⟩ rfl ?_
  refine px_sald C 345 dL_law_344 rfl E.X (hi 2 (by decide)) ?_
  have hw : wp_X0_production o (xs (ni (i + 1))) (xs (ni (i + 2))) (g.srm mcG msG) (fun v9 h9 => v9 = (qProduction X (xs (ni (i + 1))) (xs (ni (i + 2)))).1 ∧ CRep h9.c o jn tpa (X.ws (qProduction X (xs (ni (i + 1))) (xs (ni (i + 2)))).2)) := q_production (h := g.srm mcG msG) I0.R (fun h9 R9 => ⟨rfl, R9⟩)
  refine px_cVh C 1 348 (mc2 := mcG) (ms2 := msG) [vI (xs (ni (i + 1))), vI (xs (ni (i + 2)))] [] dL_law_345 rfl E.no E.hm I0.Z I0.B (ok_X0_production hH hw) ⟨hc, hs⟩ q1514 q1515 q1516 q158 q1517 rfl hd_X0_production ⟨rfl, rfl, rfl⟩ ⟨o, rfl, I0.R.B.k⟩ (fun v1 g1 g2 hq1 e2 hz2 hb2 => ?_)
  obtain ⟨r1, rfl, er1, R1⟩ := hq1
  refine x_b C (pc' := 353) (L' := [(0, vA (some b)), (1, vA (some o)), (2, vA (some m)), (3, vI i)]) (st' := [vI (i + 1), vA (some b), vA (some m), vI r1]) [(.aload_n 2, 1), (.aload_n 0, 1), (.iload_n 3, 1), (.iconst 1, 1), (.iadd, 1)] ⟨dL_law_348, dL_law_349, dL_law_350, dL_law_351, dL_law_352, rfl⟩ rfl ?_
  refine px_sald C 354 dL_law_353 rfl E.X (hi 1 (by decide)) ?_
  refine x_b C (pc' := 358) (L' := [(0, vA (some b)), (1, vA (some o)), (2, vA (some m)), (3, vI i)]) (st' := [vI (i + 2), vA (some b), vI (xs (ni (i + 1))), vA (some m), vI r1]) [(.aload_n 0, 1), (.iload_n 3, 1), (.iconst 2, 1), (.iadd, 1)] ⟨dL_law_354, dL_law_355, dL_law_356, dL_law_357, rfl⟩ rfl ?_
  refine px_sald C 359 dL_law_358 rfl E.X (hi 2 (by decide)) ?_
  refine px_cVt C 362 [vI (xs (ni (i + 1))), vI (xs (ni (i + 2)))] [vI r1] dL_law_359 rfl (ok_X1_production hG (Q := fun v9 U => v9 = (qProduction X (xs (ni (i + 1))) (xs (ni (i + 2)))).1 ∧ TwRep U (X.ws (qProduction X (xs (ni (i + 1))) (xs (ni (i + 2)))).2)) (pt_production I0.W (fun U W9 => ⟨rfl, W9⟩))) q2629 q2630 q2631 q159 q2632 hd_X1_production ⟨rfl, rfl, rfl⟩ (fun v2 T2 hq2 => ?_)
  obtain ⟨r2, rfl, er2, W2⟩ := hq2
  refine x_icmp_eq C 967 365 dL_law_362 rfl rfl (fun _ => ?_) (fun h9 => absurd (er1.trans er2.symm) h9)
  obtain ⟨n1, n2, n3⟩ := LI.next e2 R1 W2 hz2 hb2
  exact k T2 g2 n1 n2 n3
theorem lc_hangs {mcG msG : Nat} (C : Cx l D s0 cL_law "RuleShuttleLaw" mn 4 2048 88096 mc0 ms0 (some .boolean) LQ K) (hG : G0 D s0) (E : LE s0 b N m xs) (I0 : LI s0 m o jn tpa T g X) (hi : ∀ j : Int32, j = 1 ∨ j = 2 ∨ j = 3 ∨ j = 4 ∨ j = 5 → ¬ (i + j < 0 ∨ N ≤ (i + j).toNatClampNeg)) (hcG : 40 ≤ mcG) (hsG : 2000 ≤ msG) (hc : mcG ≤ g.rc) (hs : msG ≤ g.rs)
    (k : ∀ T2 g2, LI s0 m o jn tpa T2 g2 (X.ws (qHangs X (xs (ni (i + 1))) (xs (ni (i + 2))) (xs (ni (i + 3))) (xs (ni (i + 4)))).2) → g2.rc = g.rc - mcG → g2.rs = g.rs - msG → K 967 [(0, vA (some b)), (1, vA (some o)), (2, vA (some m)), (3, vI i)] [] (mix s0 m T2 g2)) : K 367 [(0, vA (some b)), (1, vA (some o)), (2, vA (some m)), (3, vI i)] [] (mix s0 m T g) := by
  have hH : G0 D (sH s0 m) := hG
  refine x_b C (pc' := 372) (L' := [(0, vA (some b)), (1, vA (some o)), (2, vA (some m)), (3, vI i)]) (st' := [vI (i + 1), vA (some b), vA (some o)]) [(.aload_n 1, 1), (.aload_n 0, 1), (.iload_n 3, 1), (.iconst 1, 1), (.iadd, 1)] ⟨dL_law_367, dL_law_368, dL_law_369, dL_law_370, dL_law_371, rfl⟩ rfl ?_
  refine px_sald C 373 dL_law_372 rfl E.X (hi 1 (by decide)) ?_
  refine x_b C (pc' := 377) (L' := [(0, vA (some b)), (1, vA (some o)), (2, vA (some m)), (3, vI i)]) (st' := [vI (i + 2), vA (some b), vI (xs (ni (i + 1))), vA (some o)]) [(.aload_n 0, 1), (.iload_n 3, 1), (.iconst 2, 1), (.iadd, 1)] ⟨dL_law_373, dL_law_374, dL_law_375, dL_law_376, rfl⟩ rfl ?_
  refine px_sald C 378 dL_law_377 rfl E.X (hi 2 (by decide)) ?_
  refine x_b C (pc' := 382) (L' := [(0, vA (some b)), (1, vA (some o)), (2, vA (some m)), (3, vI i)]) (st' := [vI (i + 3), vA (some b), vI (xs (ni (i + 2))), vI (xs (ni (i + 1))), vA (some o)]) [(.aload_n 0, 1), (.iload_n 3, 1), (.iconst 3, 1), (.iadd, 1)] ⟨dL_law_378, dL_law_379, dL_law_380, dL_law_381, rfl⟩ rfl ?_
  refine px_sald C 383 dL_law_382 rfl E.X (hi 3 (by decide)) ?_
  refine x_b C (pc' := 387) (L' := [(0, vA (some b)), (1, vA (some o)), (2, vA (some m)), (3, vI i)]) (st' := [vI (i + 4), vA (some b), vI (xs (ni (i + 3))), vI (xs (ni (i + 2))), vI (xs (ni (i + 1))), vA (some o)]) [(.aload_n 0, 1), (.iload_n 3, 1), (.iconst 4, 1), (.iadd, 1)] ⟨dL_law_383, dL_law_384, dL_law_385, dL_law_386, rfl⟩ rfl ?_
  refine px_sald C 388 dL_law_387 rfl E.X (hi 4 (by decide)) ?_
  have hw : wp_X0_hangs o (xs (ni (i + 1))) (xs (ni (i + 2))) (xs (ni (i + 3))) (xs (ni (i + 4))) (g.srm mcG msG) (fun v9 h9 => v9 = (qHangs X (xs (ni (i + 1))) (xs (ni (i + 2))) (xs (ni (i + 3))) (xs (ni (i + 4)))).1 ∧ CRep h9.c o jn tpa (X.ws (qHangs X (xs (ni (i + 1))) (xs (ni (i + 2))) (xs (ni (i + 3))) (xs (ni (i + 4)))).2)) := q_hangs (h := g.srm mcG msG) I0.R hcG hsG (fun h9 R9 => ⟨rfl, R9⟩)
  refine px_cVh C 1 391 (mc2 := mcG) (ms2 := msG) [vI (xs (ni (i + 1))), vI (xs (ni (i + 2))), vI (xs (ni (i + 3))), vI (xs (ni (i + 4)))] [] dL_law_388 rfl E.no E.hm I0.Z I0.B (ok_X0_hangs hH hw) ⟨hc, hs⟩ q1524 q1525 q1526 q158 q1527 rfl hd_X0_hangs ⟨rfl, rfl, rfl⟩ ⟨o, rfl, I0.R.B.k⟩ (fun v1 g1 g2 hq1 e2 hz2 hb2 => ?_)
  obtain ⟨r1, rfl, er1, R1⟩ := hq1
  refine x_b C (pc' := 396) (L' := [(0, vA (some b)), (1, vA (some o)), (2, vA (some m)), (3, vI i)]) (st' := [vI (i + 1), vA (some b), vA (some m), vI r1]) [(.aload_n 2, 1), (.aload_n 0, 1), (.iload_n 3, 1), (.iconst 1, 1), (.iadd, 1)] ⟨dL_law_391, dL_law_392, dL_law_393, dL_law_394, dL_law_395, rfl⟩ rfl ?_
  refine px_sald C 397 dL_law_396 rfl E.X (hi 1 (by decide)) ?_
  refine x_b C (pc' := 401) (L' := [(0, vA (some b)), (1, vA (some o)), (2, vA (some m)), (3, vI i)]) (st' := [vI (i + 2), vA (some b), vI (xs (ni (i + 1))), vA (some m), vI r1]) [(.aload_n 0, 1), (.iload_n 3, 1), (.iconst 2, 1), (.iadd, 1)] ⟨dL_law_397, dL_law_398, dL_law_399, dL_law_400, rfl⟩ rfl ?_
  refine px_sald C 402 dL_law_401 rfl E.X (hi 2 (by decide)) ?_
  refine x_b C (pc' := 406) (L' := [(0, vA (some b)), (1, vA (some o)), (2, vA (some m)), (3, vI i)]) (st' := [vI (i + 3), vA (some b), vI (xs (ni (i + 2))), vI (xs (ni (i + 1))), vA (some m), vI r1]) [(.aload_n 0, 1), (.iload_n 3, 1), (.iconst 3, 1), (.iadd, 1)] ⟨dL_law_402, dL_law_403, dL_law_404, dL_law_405, rfl⟩ rfl ?_
  refine px_sald C 407 dL_law_406 rfl E.X (hi 3 (by decide)) ?_
  refine x_b C (pc' := 411) (L' := [(0, vA (some b)), (1, vA (some o)), (2, vA (some m)), (3, vI i)]) (st' := [vI (i + 4), vA (some b), vI (xs (ni (i + 3))), vI (xs (ni (i + 2))), vI (xs (ni (i + 1))), vA (some m), vI r1]) [(.aload_n 0, 1), (.iload_n 3, 1), (.iconst 4, 1), (.iadd, 1)] ⟨dL_law_407, dL_law_408, dL_law_409, dL_law_410, rfl⟩ rfl ?_
  refine px_sald C 412 dL_law_411 rfl E.X (hi 4 (by decide)) ?_
  refine px_cVt C 415 [vI (xs (ni (i + 1))), vI (xs (ni (i + 2))), vI (xs (ni (i + 3))), vI (xs (ni (i + 4)))] [vI r1] dL_law_412 rfl (ok_X1_hangs hG (Q := fun v9 U => v9 = (qHangs X (xs (ni (i + 1))) (xs (ni (i + 2))) (xs (ni (i + 3))) (xs (ni (i + 4)))).1 ∧ TwRep U (X.ws (qHangs X (xs (ni (i + 1))) (xs (ni (i + 2))) (xs (ni (i + 3))) (xs (ni (i + 4)))).2)) (pt_hangs I0.W (fun U W9 => ⟨rfl, W9⟩))) q2637 q2638 q2639 q159 q2640 hd_X1_hangs ⟨rfl, rfl, rfl⟩ (fun v2 T2 hq2 => ?_)
  obtain ⟨r2, rfl, er2, W2⟩ := hq2
  refine x_icmp_eq C 967 418 dL_law_415 rfl rfl (fun _ => ?_) (fun h9 => absurd (er1.trans er2.symm) h9)
  obtain ⟨n1, n2, n3⟩ := LI.next e2 R1 W2 hz2 hb2
  exact k T2 g2 n1 n2 n3
theorem lc_induced {mcG msG : Nat} (C : Cx l D s0 cL_law "RuleShuttleLaw" mn 4 2048 88096 mc0 ms0 (some .boolean) LQ K) (hG : G0 D s0) (E : LE s0 b N m xs) (I0 : LI s0 m o jn tpa T g X) (hi : ∀ j : Int32, j = 1 ∨ j = 2 ∨ j = 3 ∨ j = 4 ∨ j = 5 → ¬ (i + j < 0 ∨ N ≤ (i + j).toNatClampNeg)) (hc : mcG ≤ g.rc) (hs : msG ≤ g.rs)
    (k : ∀ T2 g2, LI s0 m o jn tpa T2 g2 (X.ws (qInduced X (xs (ni (i + 1))) (xs (ni (i + 2))) (xs (ni (i + 3)))).2) → g2.rc = g.rc - mcG → g2.rs = g.rs - msG → K 967 [(0, vA (some b)), (1, vA (some o)), (2, vA (some m)), (3, vI i)] [] (mix s0 m T2 g2)) : K 420 [(0, vA (some b)), (1, vA (some o)), (2, vA (some m)), (3, vI i)] [] (mix s0 m T g) := by
  have hH : G0 D (sH s0 m) := hG
  refine x_b C (pc' := 425) (L' := [(0, vA (some b)), (1, vA (some o)), (2, vA (some m)), (3, vI i)]) (st' := [vI (i + 1), vA (some b), vA (some o)]) [(.aload_n 1, 1), (.aload_n 0, 1), (.iload_n 3, 1), (.iconst 1, 1), (.iadd, 1)] ⟨dL_law_420, dL_law_421, dL_law_422, dL_law_423, dL_law_424, rfl⟩ rfl ?_
  refine px_sald C 426 dL_law_425 rfl E.X (hi 1 (by decide)) ?_
  refine x_b C (pc' := 430) (L' := [(0, vA (some b)), (1, vA (some o)), (2, vA (some m)), (3, vI i)]) (st' := [vI (i + 2), vA (some b), vI (xs (ni (i + 1))), vA (some o)]) [(.aload_n 0, 1), (.iload_n 3, 1), (.iconst 2, 1), (.iadd, 1)] ⟨dL_law_426, dL_law_427, dL_law_428, dL_law_429, rfl⟩ rfl ?_
  refine px_sald C 431 dL_law_430 rfl E.X (hi 2 (by decide)) ?_
  refine x_b C (pc' := 435) (L' := [(0, vA (some b)), (1, vA (some o)), (2, vA (some m)), (3, vI i)]) (st' := [vI (i + 3), vA (some b), vI (xs (ni (i + 2))), vI (xs (ni (i + 1))), vA (some o)]) [(.aload_n 0, 1), (.iload_n 3, 1), (.iconst 3, 1), (.iadd, 1)] ⟨dL_law_431, dL_law_432, dL_law_433, dL_law_434, rfl⟩ rfl ?_
  refine px_sald C 436 dL_law_435 rfl E.X (hi 3 (by decide)) ?_
  have hw : wp_X0_induced o (xs (ni (i + 1))) (xs (ni (i + 2))) (xs (ni (i + 3))) (g.srm mcG msG) (fun v9 h9 => v9 = (qInduced X (xs (ni (i + 1))) (xs (ni (i + 2))) (xs (ni (i + 3)))).1 ∧ CRep h9.c o jn tpa (X.ws (qInduced X (xs (ni (i + 1))) (xs (ni (i + 2))) (xs (ni (i + 3)))).2)) := q_induced (h := g.srm mcG msG) I0.R (fun h9 R9 => ⟨rfl, R9⟩)
  refine px_cVh C 1 439 (mc2 := mcG) (ms2 := msG) [vI (xs (ni (i + 1))), vI (xs (ni (i + 2))), vI (xs (ni (i + 3)))] [] dL_law_436 rfl E.no E.hm I0.Z I0.B (ok_X0_induced hH hw) ⟨hc, hs⟩ q1536 q1537 q1538 q158 q1539 rfl hd_X0_induced ⟨rfl, rfl, rfl⟩ ⟨o, rfl, I0.R.B.k⟩ (fun v1 g1 g2 hq1 e2 hz2 hb2 => ?_)
  obtain ⟨r1, rfl, er1, R1⟩ := hq1
  refine x_b C (pc' := 444) (L' := [(0, vA (some b)), (1, vA (some o)), (2, vA (some m)), (3, vI i)]) (st' := [vI (i + 1), vA (some b), vA (some m), vI r1]) [(.aload_n 2, 1), (.aload_n 0, 1), (.iload_n 3, 1), (.iconst 1, 1), (.iadd, 1)] ⟨dL_law_439, dL_law_440, dL_law_441, dL_law_442, dL_law_443, rfl⟩ rfl ?_
  refine px_sald C 445 dL_law_444 rfl E.X (hi 1 (by decide)) ?_
  refine x_b C (pc' := 449) (L' := [(0, vA (some b)), (1, vA (some o)), (2, vA (some m)), (3, vI i)]) (st' := [vI (i + 2), vA (some b), vI (xs (ni (i + 1))), vA (some m), vI r1]) [(.aload_n 0, 1), (.iload_n 3, 1), (.iconst 2, 1), (.iadd, 1)] ⟨dL_law_445, dL_law_446, dL_law_447, dL_law_448, rfl⟩ rfl ?_
  refine px_sald C 450 dL_law_449 rfl E.X (hi 2 (by decide)) ?_
  refine x_b C (pc' := 454) (L' := [(0, vA (some b)), (1, vA (some o)), (2, vA (some m)), (3, vI i)]) (st' := [vI (i + 3), vA (some b), vI (xs (ni (i + 2))), vI (xs (ni (i + 1))), vA (some m), vI r1]) [(.aload_n 0, 1), (.iload_n 3, 1), (.iconst 3, 1), (.iadd, 1)] ⟨dL_law_450, dL_law_451, dL_law_452, dL_law_453, rfl⟩ rfl ?_
  refine px_sald C 455 dL_law_454 rfl E.X (hi 3 (by decide)) ?_
  refine px_cVt C 458 [vI (xs (ni (i + 1))), vI (xs (ni (i + 2))), vI (xs (ni (i + 3)))] [vI r1] dL_law_455 rfl (ok_X1_induced hG (Q := fun v9 U => v9 = (qInduced X (xs (ni (i + 1))) (xs (ni (i + 2))) (xs (ni (i + 3)))).1 ∧ TwRep U (X.ws (qInduced X (xs (ni (i + 1))) (xs (ni (i + 2))) (xs (ni (i + 3)))).2)) (pt_induced I0.W (fun U W9 => ⟨rfl, W9⟩))) q2661 q2662 q2663 q159 q2664 hd_X1_induced ⟨rfl, rfl, rfl⟩ (fun v2 T2 hq2 => ?_)
  obtain ⟨r2, rfl, er2, W2⟩ := hq2
  refine x_icmp_eq C 967 461 dL_law_458 rfl rfl (fun _ => ?_) (fun h9 => absurd (er1.trans er2.symm) h9)
  obtain ⟨n1, n2, n3⟩ := LI.next e2 R1 W2 hz2 hb2
  exact k T2 g2 n1 n2 n3
theorem lc_circle {mcG msG : Nat} (C : Cx l D s0 cL_law "RuleShuttleLaw" mn 4 2048 88096 mc0 ms0 (some .boolean) LQ K) (hG : G0 D s0) (E : LE s0 b N m xs) (I0 : LI s0 m o jn tpa T g X) (hi : ∀ j : Int32, j = 1 ∨ j = 2 ∨ j = 3 ∨ j = 4 ∨ j = 5 → ¬ (i + j < 0 ∨ N ≤ (i + j).toNatClampNeg)) (hcG : 40 ≤ mcG) (hsG : 2000 ≤ msG) (hc : mcG ≤ g.rc) (hs : msG ≤ g.rs)
    (k : ∀ T2 g2, LI s0 m o jn tpa T2 g2 (X.ws (qCircle X (xs (ni (i + 1)))).2) → g2.rc = g.rc - mcG → g2.rs = g.rs - msG → K 967 [(0, vA (some b)), (1, vA (some o)), (2, vA (some m)), (3, vI i)] [] (mix s0 m T2 g2)) : K 463 [(0, vA (some b)), (1, vA (some o)), (2, vA (some m)), (3, vI i)] [] (mix s0 m T g) := by
  have hH : G0 D (sH s0 m) := hG
  refine x_b C (pc' := 468) (L' := [(0, vA (some b)), (1, vA (some o)), (2, vA (some m)), (3, vI i)]) (st' := [vI (i + 1), vA (some b), vA (some o)]) [(.aload_n 1, 1), (.aload_n 0, 1), (.iload_n 3, 1), (.iconst 1, 1), (.iadd, 1)] ⟨dL_law_463, dL_law_464, dL_law_465, dL_law_466, dL_law_467, rfl⟩ rfl ?_
  refine px_sald C 469 dL_law_468 rfl E.X (hi 1 (by decide)) ?_
  have hw : wp_X0_circle o (xs (ni (i + 1))) (g.srm mcG msG) (fun v9 h9 => v9 = (qCircle X (xs (ni (i + 1)))).1 ∧ CRep h9.c o jn tpa (X.ws (qCircle X (xs (ni (i + 1)))).2)) := q_circle (h := g.srm mcG msG) I0.R hcG hsG (fun h9 R9 => ⟨rfl, R9⟩)
  refine px_cVh C 1 472 (mc2 := mcG) (ms2 := msG) [vI (xs (ni (i + 1)))] [] dL_law_469 rfl E.no E.hm I0.Z I0.B (ok_X0_circle hH hw) ⟨hc, hs⟩ q1544 q1545 q1546 q158 q1547 rfl hd_X0_circle ⟨rfl, rfl, rfl⟩ ⟨o, rfl, I0.R.B.k⟩ (fun v1 g1 g2 hq1 e2 hz2 hb2 => ?_)
  obtain ⟨r1, rfl, er1, R1⟩ := hq1
  refine x_b C (pc' := 477) (L' := [(0, vA (some b)), (1, vA (some o)), (2, vA (some m)), (3, vI i)]) (st' := [vI (i + 1), vA (some b), vA (some m), vI r1]) [(.aload_n 2, 1), (.aload_n 0, 1), (.iload_n 3, 1), (.iconst 1, 1), (.iadd, 1)] ⟨dL_law_472, dL_law_473, dL_law_474, dL_law_475, dL_law_476, rfl⟩ rfl ?_
  refine px_sald C 478 dL_law_477 rfl E.X (hi 1 (by decide)) ?_
  refine px_cVt C 481 [vI (xs (ni (i + 1)))] [vI r1] dL_law_478 rfl (ok_X1_circle hG (Q := fun v9 U => v9 = (qCircle X (xs (ni (i + 1)))).1 ∧ TwRep U (X.ws (qCircle X (xs (ni (i + 1)))).2)) (pt_circle I0.W (fun U W9 => ⟨rfl, W9⟩))) q2669 q2670 q2671 q159 q2672 hd_X1_circle ⟨rfl, rfl, rfl⟩ (fun v2 T2 hq2 => ?_)
  obtain ⟨r2, rfl, er2, W2⟩ := hq2
  refine x_icmp_eq C 967 484 dL_law_481 rfl rfl (fun _ => ?_) (fun h9 => absurd (er1.trans er2.symm) h9)
  obtain ⟨n1, n2, n3⟩ := LI.next e2 R1 W2 hz2 hb2
  exact k T2 g2 n1 n2 n3
theorem lc_visit {mcG msG : Nat} (C : Cx l D s0 cL_law "RuleShuttleLaw" mn 4 2048 88096 mc0 ms0 (some .boolean) LQ K) (hG : G0 D s0) (E : LE s0 b N m xs) (I0 : LI s0 m o jn tpa T g X) (hi : ∀ j : Int32, j = 1 ∨ j = 2 ∨ j = 3 ∨ j = 4 ∨ j = 5 → ¬ (i + j < 0 ∨ N ≤ (i + j).toNatClampNeg)) (hc : mcG ≤ g.rc) (hs : msG ≤ g.rs)
    (k : ∀ T2 g2, LI s0 m o jn tpa T2 g2 (X.ws (qVisit X (xs (ni (i + 1))) (xs (ni (i + 2)))).2) → g2.rc = g.rc - mcG → g2.rs = g.rs - msG → K 967 [(0, vA (some b)), (1, vA (some o)), (2, vA (some m)), (3, vI i)] [] (mix s0 m T2 g2)) : K 486 [(0, vA (some b)), (1, vA (some o)), (2, vA (some m)), (3, vI i)] [] (mix s0 m T g) := by
  have hH : G0 D (sH s0 m) := hG
  refine x_b C (pc' := 491) (L' := [(0, vA (some b)), (1, vA (some o)), (2, vA (some m)), (3, vI i)]) (st' := [vI (i + 1), vA (some b), vA (some o)]) [(.aload_n 1, 1), (.aload_n 0, 1), (.iload_n 3, 1), (.iconst 1, 1), (.iadd, 1)] ⟨dL_law_486, dL_law_487, dL_law_488, dL_law_489, dL_law_490, rfl⟩ rfl ?_
  refine px_sald C 492 dL_law_491 rfl E.X (hi 1 (by decide)) ?_
  refine x_b C (pc' := 496) (L' := [(0, vA (some b)), (1, vA (some o)), (2, vA (some m)), (3, vI i)]) (st' := [vI (i + 2), vA (some b), vI (xs (ni (i + 1))), vA (some o)]) [(.aload_n 0, 1), (.iload_n 3, 1), (.iconst 2, 1), (.iadd, 1)] ⟨dL_law_492, dL_law_493, dL_law_494, dL_law_495, rfl⟩ rfl ?_
  refine px_sald C 497 dL_law_496 rfl E.X (hi 2 (by decide)) ?_
  have hw : wp_X0_visit o (xs (ni (i + 1))) (xs (ni (i + 2))) (g.srm mcG msG) (fun v9 h9 => v9 = (qVisit X (xs (ni (i + 1))) (xs (ni (i + 2)))).1 ∧ CRep h9.c o jn tpa (X.ws (qVisit X (xs (ni (i + 1))) (xs (ni (i + 2)))).2)) := q_visit (h := g.srm mcG msG) I0.R (fun h9 R9 => ⟨rfl, R9⟩)
  refine px_cVh C 1 500 (mc2 := mcG) (ms2 := msG) [vI (xs (ni (i + 1))), vI (xs (ni (i + 2)))] [] dL_law_497 rfl E.no E.hm I0.Z I0.B (ok_X0_visit hH hw) ⟨hc, hs⟩ q1586 q1587 q1588 q158 q1589 rfl hd_X0_visit ⟨rfl, rfl, rfl⟩ ⟨o, rfl, I0.R.B.k⟩ (fun v1 g1 g2 hq1 e2 hz2 hb2 => ?_)
  obtain ⟨r1, rfl, er1, R1⟩ := hq1
  refine x_b C (pc' := 505) (L' := [(0, vA (some b)), (1, vA (some o)), (2, vA (some m)), (3, vI i)]) (st' := [vI (i + 1), vA (some b), vA (some m), vI r1]) [(.aload_n 2, 1), (.aload_n 0, 1), (.iload_n 3, 1), (.iconst 1, 1), (.iadd, 1)] ⟨dL_law_500, dL_law_501, dL_law_502, dL_law_503, dL_law_504, rfl⟩ rfl ?_
  refine px_sald C 506 dL_law_505 rfl E.X (hi 1 (by decide)) ?_
  refine x_b C (pc' := 510) (L' := [(0, vA (some b)), (1, vA (some o)), (2, vA (some m)), (3, vI i)]) (st' := [vI (i + 2), vA (some b), vI (xs (ni (i + 1))), vA (some m), vI r1]) [(.aload_n 0, 1), (.iload_n 3, 1), (.iconst 2, 1), (.iadd, 1)] ⟨dL_law_506, dL_law_507, dL_law_508, dL_law_509, rfl⟩ rfl ?_
  refine px_sald C 511 dL_law_510 rfl E.X (hi 2 (by decide)) ?_
  refine px_cVt C 514 [vI (xs (ni (i + 1))), vI (xs (ni (i + 2)))] [vI r1] dL_law_511 rfl (ok_X1_visit hG (Q := fun v9 U => v9 = (qVisit X (xs (ni (i + 1))) (xs (ni (i + 2)))).1 ∧ TwRep U (X.ws (qVisit X (xs (ni (i + 1))) (xs (ni (i + 2)))).2)) (pt_visit I0.W (fun U W9 => ⟨rfl, W9⟩))) q2686 q2687 q2688 q159 q2689 hd_X1_visit ⟨rfl, rfl, rfl⟩ (fun v2 T2 hq2 => ?_)
  obtain ⟨r2, rfl, er2, W2⟩ := hq2
  refine x_icmp_eq C 967 517 dL_law_514 rfl rfl (fun _ => ?_) (fun h9 => absurd (er1.trans er2.symm) h9)
  obtain ⟨n1, n2, n3⟩ := LI.next e2 R1 W2 hz2 hb2
  exact k T2 g2 n1 n2 n3
theorem lc_ordered {mcG msG : Nat} (C : Cx l D s0 cL_law "RuleShuttleLaw" mn 4 2048 88096 mc0 ms0 (some .boolean) LQ K) (hG : G0 D s0) (E : LE s0 b N m xs) (I0 : LI s0 m o jn tpa T g X) (hi : ∀ j : Int32, j = 1 ∨ j = 2 ∨ j = 3 ∨ j = 4 ∨ j = 5 → ¬ (i + j < 0 ∨ N ≤ (i + j).toNatClampNeg)) (hc : mcG ≤ g.rc) (hs : msG ≤ g.rs)
    (k : ∀ T2 g2, LI s0 m o jn tpa T2 g2 (X.ws (qOrdered X (xs (ni (i + 1)))).2) → g2.rc = g.rc - mcG → g2.rs = g.rs - msG → K 967 [(0, vA (some b)), (1, vA (some o)), (2, vA (some m)), (3, vI i)] [] (mix s0 m T2 g2)) : K 519 [(0, vA (some b)), (1, vA (some o)), (2, vA (some m)), (3, vI i)] [] (mix s0 m T g) := by
  have hH : G0 D (sH s0 m) := hG
  refine x_b C (pc' := 524) (L' := [(0, vA (some b)), (1, vA (some o)), (2, vA (some m)), (3, vI i)]) (st' := [vI (i + 1), vA (some b), vA (some o)]) [(.aload_n 1, 1), (.aload_n 0, 1), (.iload_n 3, 1), (.iconst 1, 1), (.iadd, 1)] ⟨dL_law_519, dL_law_520, dL_law_521, dL_law_522, dL_law_523, rfl⟩ rfl ?_
  refine px_sald C 525 dL_law_524 rfl E.X (hi 1 (by decide)) ?_
  have hw : wp_X0_ordered o (xs (ni (i + 1))) (g.srm mcG msG) (fun v9 h9 => v9 = (qOrdered X (xs (ni (i + 1)))).1 ∧ CRep h9.c o jn tpa (X.ws (qOrdered X (xs (ni (i + 1)))).2)) := q_ordered (h := g.srm mcG msG) I0.R (fun h9 R9 => ⟨rfl, R9⟩)
  refine px_cVh C 1 528 (mc2 := mcG) (ms2 := msG) [vI (xs (ni (i + 1)))] [] dL_law_525 rfl E.no E.hm I0.Z I0.B (ok_X0_ordered hH hw) ⟨hc, hs⟩ q1590 q1591 q1592 q158 q1593 rfl hd_X0_ordered ⟨rfl, rfl, rfl⟩ ⟨o, rfl, I0.R.B.k⟩ (fun v1 g1 g2 hq1 e2 hz2 hb2 => ?_)
  obtain ⟨r1, rfl, er1, R1⟩ := hq1
  refine x_b C (pc' := 533) (L' := [(0, vA (some b)), (1, vA (some o)), (2, vA (some m)), (3, vI i)]) (st' := [vI (i + 1), vA (some b), vA (some m), vI r1]) [(.aload_n 2, 1), (.aload_n 0, 1), (.iload_n 3, 1), (.iconst 1, 1), (.iadd, 1)] ⟨dL_law_528, dL_law_529, dL_law_530, dL_law_531, dL_law_532, rfl⟩ rfl ?_
  refine px_sald C 534 dL_law_533 rfl E.X (hi 1 (by decide)) ?_
  refine px_cVt C 537 [vI (xs (ni (i + 1)))] [vI r1] dL_law_534 rfl (ok_X1_ordered hG (Q := fun v9 U => v9 = (qOrdered X (xs (ni (i + 1)))).1 ∧ TwRep U (X.ws (qOrdered X (xs (ni (i + 1)))).2)) (pt_ordered I0.W (fun U W9 => ⟨rfl, W9⟩))) q2690 q2691 q2692 q159 q2693 hd_X1_ordered ⟨rfl, rfl, rfl⟩ (fun v2 T2 hq2 => ?_)
  obtain ⟨r2, rfl, er2, W2⟩ := hq2
  refine x_icmp_eq C 967 540 dL_law_537 rfl rfl (fun _ => ?_) (fun h9 => absurd (er1.trans er2.symm) h9)
  obtain ⟨n1, n2, n3⟩ := LI.next e2 R1 W2 hz2 hb2
  exact k T2 g2 n1 n2 n3
theorem lc_plan {mcG msG : Nat} (C : Cx l D s0 cL_law "RuleShuttleLaw" mn 4 2048 88096 mc0 ms0 (some .boolean) LQ K) (hG : G0 D s0) (E : LE s0 b N m xs) (I0 : LI s0 m o jn tpa T g X) (hi : ∀ j : Int32, j = 1 ∨ j = 2 ∨ j = 3 ∨ j = 4 ∨ j = 5 → ¬ (i + j < 0 ∨ N ≤ (i + j).toNatClampNeg)) (hc : mcG ≤ g.rc) (hs : msG ≤ g.rs)
    (k : ∀ T2 g2, LI s0 m o jn tpa T2 g2 (X.ws (qPlan X (xs (ni (i + 1))) (xs (ni (i + 2)))).2) → g2.rc = g.rc - mcG → g2.rs = g.rs - msG → K 967 [(0, vA (some b)), (1, vA (some o)), (2, vA (some m)), (3, vI i)] [] (mix s0 m T2 g2)) : K 542 [(0, vA (some b)), (1, vA (some o)), (2, vA (some m)), (3, vI i)] [] (mix s0 m T g) := by
  have hH : G0 D (sH s0 m) := hG
  refine x_b C (pc' := 547) (L' := [(0, vA (some b)), (1, vA (some o)), (2, vA (some m)), (3, vI i)]) (st' := [vI (i + 1), vA (some b), vA (some o)]) [(.aload_n 1, 1), (.aload_n 0, 1), (.iload_n 3, 1), (.iconst 1, 1), (.iadd, 1)] ⟨dL_law_542, dL_law_543, dL_law_544, dL_law_545, dL_law_546, rfl⟩ rfl ?_
  refine px_sald C 548 dL_law_547 rfl E.X (hi 1 (by decide)) ?_
  refine x_b C (pc' := 552) (L' := [(0, vA (some b)), (1, vA (some o)), (2, vA (some m)), (3, vI i)]) (st' := [vI (i + 2), vA (some b), vI (xs (ni (i + 1))), vA (some o)]) [(.aload_n 0, 1), (.iload_n 3, 1), (.iconst 2, 1), (.iadd, 1)] ⟨dL_law_548, dL_law_549, dL_law_550, dL_law_551, rfl⟩ rfl ?_
  refine px_sald C 553 dL_law_552 rfl E.X (hi 2 (by decide)) ?_
  have hw : wp_X0_plan o (xs (ni (i + 1))) (xs (ni (i + 2))) (g.srm mcG msG) (fun v9 h9 => v9 = (qPlan X (xs (ni (i + 1))) (xs (ni (i + 2)))).1 ∧ CRep h9.c o jn tpa (X.ws (qPlan X (xs (ni (i + 1))) (xs (ni (i + 2)))).2)) := q_plan (h := g.srm mcG msG) I0.R (fun h9 R9 => ⟨rfl, R9⟩)
  refine px_cVh C 1 556 (mc2 := mcG) (ms2 := msG) [vI (xs (ni (i + 1))), vI (xs (ni (i + 2)))] [] dL_law_553 rfl E.no E.hm I0.Z I0.B (ok_X0_plan hH hw) ⟨hc, hs⟩ q1594 q1595 q1596 q158 q1597 rfl hd_X0_plan ⟨rfl, rfl, rfl⟩ ⟨o, rfl, I0.R.B.k⟩ (fun v1 g1 g2 hq1 e2 hz2 hb2 => ?_)
  obtain ⟨r1, rfl, er1, R1⟩ := hq1
  refine x_b C (pc' := 561) (L' := [(0, vA (some b)), (1, vA (some o)), (2, vA (some m)), (3, vI i)]) (st' := [vI (i + 1), vA (some b), vA (some m), vI r1]) [(.aload_n 2, 1), (.aload_n 0, 1), (.iload_n 3, 1), (.iconst 1, 1), (.iadd, 1)] ⟨dL_law_556, dL_law_557, dL_law_558, dL_law_559, dL_law_560, rfl⟩ rfl ?_
  refine px_sald C 562 dL_law_561 rfl E.X (hi 1 (by decide)) ?_
  refine x_b C (pc' := 566) (L' := [(0, vA (some b)), (1, vA (some o)), (2, vA (some m)), (3, vI i)]) (st' := [vI (i + 2), vA (some b), vI (xs (ni (i + 1))), vA (some m), vI r1]) [(.aload_n 0, 1), (.iload_n 3, 1), (.iconst 2, 1), (.iadd, 1)] ⟨dL_law_562, dL_law_563, dL_law_564, dL_law_565, rfl⟩ rfl ?_
  refine px_sald C 567 dL_law_566 rfl E.X (hi 2 (by decide)) ?_
  refine px_cVt C 570 [vI (xs (ni (i + 1))), vI (xs (ni (i + 2)))] [vI r1] dL_law_567 rfl (ok_X1_plan hG (Q := fun v9 U => v9 = (qPlan X (xs (ni (i + 1))) (xs (ni (i + 2)))).1 ∧ TwRep U (X.ws (qPlan X (xs (ni (i + 1))) (xs (ni (i + 2)))).2)) (pt_plan I0.W (fun U W9 => ⟨rfl, W9⟩))) q2698 q2699 q2700 q159 q2701 hd_X1_plan ⟨rfl, rfl, rfl⟩ (fun v2 T2 hq2 => ?_)
  obtain ⟨r2, rfl, er2, W2⟩ := hq2
  refine x_icmp_eq C 967 573 dL_law_570 rfl rfl (fun _ => ?_) (fun h9 => absurd (er1.trans er2.symm) h9)
  obtain ⟨n1, n2, n3⟩ := LI.next e2 R1 W2 hz2 hb2
  exact k T2 g2 n1 n2 n3
theorem lc_real {mcG msG : Nat} (C : Cx l D s0 cL_law "RuleShuttleLaw" mn 4 2048 88096 mc0 ms0 (some .boolean) LQ K) (hG : G0 D s0) (E : LE s0 b N m xs) (I0 : LI s0 m o jn tpa T g X) (hi : ∀ j : Int32, j = 1 ∨ j = 2 ∨ j = 3 ∨ j = 4 ∨ j = 5 → ¬ (i + j < 0 ∨ N ≤ (i + j).toNatClampNeg)) (hcG : 1300 ≤ mcG) (hsG : 40000 ≤ msG) (hc : mcG ≤ g.rc) (hs : msG ≤ g.rs)
    (k : ∀ T2 g2, LI s0 m o jn tpa T2 g2 (X.ws (qReal X (xs (ni (i + 1)))).2) → g2.rc = g.rc - mcG → g2.rs = g.rs - msG → K 967 [(0, vA (some b)), (1, vA (some o)), (2, vA (some m)), (3, vI i)] [] (mix s0 m T2 g2)) : K 575 [(0, vA (some b)), (1, vA (some o)), (2, vA (some m)), (3, vI i)] [] (mix s0 m T g) := by
  have hH : G0 D (sH s0 m) := hG
  refine x_b C (pc' := 580) (L' := [(0, vA (some b)), (1, vA (some o)), (2, vA (some m)), (3, vI i)]) (st' := [vI (i + 1), vA (some b), vA (some o)]) [(.aload_n 1, 1), (.aload_n 0, 1), (.iload_n 3, 1), (.iconst 1, 1), (.iadd, 1)] ⟨dL_law_575, dL_law_576, dL_law_577, dL_law_578, dL_law_579, rfl⟩ rfl ?_
  refine px_sald C 581 dL_law_580 rfl E.X (hi 1 (by decide)) ?_
  have hw : wp_X0_real o (xs (ni (i + 1))) (g.srm mcG msG) (fun v9 h9 => v9 = (qReal X (xs (ni (i + 1)))).1 ∧ CRep h9.c o jn tpa (X.ws (qReal X (xs (ni (i + 1)))).2)) := q_real shNow (h := g.srm mcG msG) I0.R hcG hsG (fun h9 R9 => ⟨rfl, R9⟩)
  refine px_cVh C 1 584 (mc2 := mcG) (ms2 := msG) [vI (xs (ni (i + 1)))] [] dL_law_581 rfl E.no E.hm I0.Z I0.B (ok_X0_real hH hw) ⟨hc, hs⟩ q1598 q1599 q1600 q158 q1601 rfl hd_X0_real ⟨rfl, rfl, rfl⟩ ⟨o, rfl, I0.R.B.k⟩ (fun v1 g1 g2 hq1 e2 hz2 hb2 => ?_)
  obtain ⟨r1, rfl, er1, R1⟩ := hq1
  refine x_b C (pc' := 589) (L' := [(0, vA (some b)), (1, vA (some o)), (2, vA (some m)), (3, vI i)]) (st' := [vI (i + 1), vA (some b), vA (some m), vI r1]) [(.aload_n 2, 1), (.aload_n 0, 1), (.iload_n 3, 1), (.iconst 1, 1), (.iadd, 1)] ⟨dL_law_584, dL_law_585, dL_law_586, dL_law_587, dL_law_588, rfl⟩ rfl ?_
  refine px_sald C 590 dL_law_589 rfl E.X (hi 1 (by decide)) ?_
  refine px_cVt C 593 [vI (xs (ni (i + 1)))] [vI r1] dL_law_590 rfl (ok_X1_real hG (Q := fun v9 U => v9 = (qReal X (xs (ni (i + 1)))).1 ∧ TwRep U (X.ws (qReal X (xs (ni (i + 1)))).2)) (pt_real I0.W (fun U W9 => ⟨rfl, W9⟩))) q2726 q2727 q2728 q159 q2729 hd_X1_real ⟨rfl, rfl, rfl⟩ (fun v2 T2 hq2 => ?_)
  obtain ⟨r2, rfl, er2, W2⟩ := hq2
  refine x_icmp_eq C 967 596 dL_law_593 rfl rfl (fun _ => ?_) (fun h9 => absurd (er1.trans er2.symm) h9)
  obtain ⟨n1, n2, n3⟩ := LI.next e2 R1 W2 hz2 hb2
  exact k T2 g2 n1 n2 n3
theorem lc_shades {mcG msG : Nat} (C : Cx l D s0 cL_law "RuleShuttleLaw" mn 4 2048 88096 mc0 ms0 (some .boolean) LQ K) (hG : G0 D s0) (E : LE s0 b N m xs) (I0 : LI s0 m o jn tpa T g X) (hi : ∀ j : Int32, j = 1 ∨ j = 2 ∨ j = 3 ∨ j = 4 ∨ j = 5 → ¬ (i + j < 0 ∨ N ≤ (i + j).toNatClampNeg)) (hcG : 1300 ≤ mcG) (hsG : 40000 ≤ msG) (hc : mcG ≤ g.rc) (hs : msG ≤ g.rs)
    (k : ∀ T2 g2, LI s0 m o jn tpa T2 g2 (X.ws (qShades X (xs (ni (i + 1)))).2) → g2.rc = g.rc - mcG → g2.rs = g.rs - msG → K 967 [(0, vA (some b)), (1, vA (some o)), (2, vA (some m)), (3, vI i)] [] (mix s0 m T2 g2)) : K 598 [(0, vA (some b)), (1, vA (some o)), (2, vA (some m)), (3, vI i)] [] (mix s0 m T g) := by
  have hH : G0 D (sH s0 m) := hG
  refine x_b C (pc' := 603) (L' := [(0, vA (some b)), (1, vA (some o)), (2, vA (some m)), (3, vI i)]) (st' := [vI (i + 1), vA (some b), vA (some o)]) [(.aload_n 1, 1), (.aload_n 0, 1), (.iload_n 3, 1), (.iconst 1, 1), (.iadd, 1)] ⟨dL_law_598, dL_law_599, dL_law_600, dL_law_601, dL_law_602, rfl⟩ rfl ?_
  refine px_sald C 604 dL_law_603 rfl E.X (hi 1 (by decide)) ?_
  have hw : wp_X0_shades o (xs (ni (i + 1))) (g.srm mcG msG) (fun v9 h9 => v9 = (qShades X (xs (ni (i + 1)))).1 ∧ CRep h9.c o jn tpa (X.ws (qShades X (xs (ni (i + 1)))).2)) := q_shades shNow (h := g.srm mcG msG) I0.R hcG hsG (fun h9 R9 => ⟨rfl, R9⟩)
  refine px_cVh C 1 607 (mc2 := mcG) (ms2 := msG) [vI (xs (ni (i + 1)))] [] dL_law_604 rfl E.no E.hm I0.Z I0.B (ok_X0_shades hH hw) ⟨hc, hs⟩ q1682 q1683 q1684 q158 q1685 rfl hd_X0_shades ⟨rfl, rfl, rfl⟩ ⟨o, rfl, I0.R.B.k⟩ (fun v1 g1 g2 hq1 e2 hz2 hb2 => ?_)
  obtain ⟨r1, rfl, er1, R1⟩ := hq1
  refine x_b C (pc' := 612) (L' := [(0, vA (some b)), (1, vA (some o)), (2, vA (some m)), (3, vI i)]) (st' := [vI (i + 1), vA (some b), vA (some m), vI r1]) [(.aload_n 2, 1), (.aload_n 0, 1), (.iload_n 3, 1), (.iconst 1, 1), (.iadd, 1)] ⟨dL_law_607, dL_law_608, dL_law_609, dL_law_610, dL_law_611, rfl⟩ rfl ?_
  refine px_sald C 613 dL_law_612 rfl E.X (hi 1 (by decide)) ?_
  refine px_cVt C 616 [vI (xs (ni (i + 1)))] [vI r1] dL_law_613 rfl (ok_X1_shades hG (Q := fun v9 U => v9 = (qShades X (xs (ni (i + 1)))).1 ∧ TwRep U (X.ws (qShades X (xs (ni (i + 1)))).2)) (pt_shades I0.W (fun U W9 => ⟨rfl, W9⟩))) q2750 q2751 q2752 q159 q2753 hd_X1_shades ⟨rfl, rfl, rfl⟩ (fun v2 T2 hq2 => ?_)
  obtain ⟨r2, rfl, er2, W2⟩ := hq2
  refine x_icmp_eq C 967 619 dL_law_616 rfl rfl (fun _ => ?_) (fun h9 => absurd (er1.trans er2.symm) h9)
  obtain ⟨n1, n2, n3⟩ := LI.next e2 R1 W2 hz2 hb2
  exact k T2 g2 n1 n2 n3
theorem lc_tree {mcG msG : Nat} (C : Cx l D s0 cL_law "RuleShuttleLaw" mn 4 2048 88096 mc0 ms0 (some .boolean) LQ K) (hG : G0 D s0) (E : LE s0 b N m xs) (I0 : LI s0 m o jn tpa T g X) (hi : ∀ j : Int32, j = 1 ∨ j = 2 ∨ j = 3 ∨ j = 4 ∨ j = 5 → ¬ (i + j < 0 ∨ N ≤ (i + j).toNatClampNeg)) (hcG : inR (xs (ni (i + 1))) (X.m + 1) → X.gr ≠ none → 1000 + 64 * X.m ≤ mcG) (hsG : inR (xs (ni (i + 1))) (X.m + 1) → X.gr ≠ none → 9000 + 1024 * X.m ≤ msG) (hc : mcG ≤ g.rc) (hs : msG ≤ g.rs)
    (k : ∀ T2 g2, LI s0 m o jn tpa T2 g2 (xTree X (xs (ni (i + 1)))) → g2.rc = g.rc - mcG → g2.rs = g.rs - msG → K 967 [(0, vA (some b)), (1, vA (some o)), (2, vA (some m)), (3, vI i)] [] (mix s0 m T2 g2)) : K 621 [(0, vA (some b)), (1, vA (some o)), (2, vA (some m)), (3, vI i)] [] (mix s0 m T g) := by
  have hH : G0 D (sH s0 m) := hG
  refine x_b C (pc' := 626) (L' := [(0, vA (some b)), (1, vA (some o)), (2, vA (some m)), (3, vI i)]) (st' := [vI (i + 1), vA (some b), vA (some o)]) [(.aload_n 1, 1), (.aload_n 0, 1), (.iload_n 3, 1), (.iconst 1, 1), (.iadd, 1)] ⟨dL_law_621, dL_law_622, dL_law_623, dL_law_624, dL_law_625, rfl⟩ rfl ?_
  refine px_sald C 627 dL_law_626 rfl E.X (hi 1 (by decide)) ?_
  have hw : wp_X0_tree o (xs (ni (i + 1))) (g.srm mcG msG) (fun v9 h9 => v9 = (qTree X (xs (ni (i + 1)))) ∧ CRep h9.c o jn tpa (xTree X (xs (ni (i + 1))))) := q_tree (h := g.srm mcG msG) I0.R hcG hsG (fun h9 R9 => ⟨rfl, R9⟩)
  refine px_cVhW C 1 630 (mc2 := mcG) (ms2 := msG) [vI (xs (ni (i + 1)))] [] dL_law_627 rfl E.no E.hm I0.Z I0.B (ok_X0_tree hH hw) ⟨hc, hs⟩ q1686 q1687 q1688 q158 q1689 rfl hd_X0_tree ⟨rfl, rfl, rfl⟩ ⟨o, rfl, I0.R.B.k⟩ (fun v1 g1 g2 hq1 e2 hz2 hb2 => ?_)
  obtain ⟨r1, rfl, er1, R1⟩ := hq1
  refine x_b C (pc' := 635) (L' := [(0, vA (some b)), (1, vA (some o)), (2, vA (some m)), (3, vI i)]) (st' := [vI (i + 1), vA (some b), vA (some m), vI r1]) [(.aload_n 2, 1), (.aload_n 0, 1), (.iload_n 3, 1), (.iconst 1, 1), (.iadd, 1)] ⟨dL_law_630, dL_law_631, dL_law_632, dL_law_633, dL_law_634, rfl⟩ rfl ?_
  refine px_sald C 636 dL_law_635 rfl E.X (hi 1 (by decide)) ?_
  refine px_cVt C 639 [vI (xs (ni (i + 1)))] [vI r1] dL_law_636 rfl (ok_X1_tree hG (Q := fun v9 U => v9 = (qTree X (xs (ni (i + 1)))) ∧ TwRep U (xTree X (xs (ni (i + 1))))) (pt_tree I0.W (fun U W9 => ⟨rfl, W9⟩))) q2754 q2755 q2756 q159 q2757 hd_X1_tree ⟨rfl, rfl, rfl⟩ (fun v2 T2 hq2 => ?_)
  obtain ⟨r2, rfl, er2, W2⟩ := hq2
  refine x_icmp_eq C 967 642 dL_law_639 rfl rfl (fun _ => ?_) (fun h9 => absurd (er1.trans er2.symm) h9)
  obtain ⟨n1, n2, n3⟩ := LI.next e2 R1 W2 hz2 hb2
  exact k T2 g2 n1 n2 n3
theorem lc_node {mcG msG : Nat} (C : Cx l D s0 cL_law "RuleShuttleLaw" mn 4 2048 88096 mc0 ms0 (some .boolean) LQ K) (hG : G0 D s0) (E : LE s0 b N m xs) (I0 : LI s0 m o jn tpa T g X) (hi : ∀ j : Int32, j = 1 ∨ j = 2 ∨ j = 3 ∨ j = 4 ∨ j = 5 → ¬ (i + j < 0 ∨ N ≤ (i + j).toNatClampNeg)) (hcG : 40 ≤ mcG) (hsG : 2000 ≤ msG) (hc : mcG ≤ g.rc) (hs : msG ≤ g.rs)
    (k : ∀ T2 g2, LI s0 m o jn tpa T2 g2 (X.ws (qNode X (xs (ni (i + 1))) (xs (ni (i + 2)))).2) → g2.rc = g.rc - mcG → g2.rs = g.rs - msG → K 967 [(0, vA (some b)), (1, vA (some o)), (2, vA (some m)), (3, vI i)] [] (mix s0 m T2 g2)) : K 644 [(0, vA (some b)), (1, vA (some o)), (2, vA (some m)), (3, vI i)] [] (mix s0 m T g) := by
  have hH : G0 D (sH s0 m) := hG
  refine x_b C (pc' := 649) (L' := [(0, vA (some b)), (1, vA (some o)), (2, vA (some m)), (3, vI i)]) (st' := [vI (i + 1), vA (some b), vA (some o)]) [(.aload_n 1, 1), (.aload_n 0, 1), (.iload_n 3, 1), (.iconst 1, 1), (.iadd, 1)] ⟨dL_law_644, dL_law_645, dL_law_646, dL_law_647, dL_law_648, rfl⟩ rfl ?_
  refine px_sald C 650 dL_law_649 rfl E.X (hi 1 (by decide)) ?_
  refine x_b C (pc' := 654) (L' := [(0, vA (some b)), (1, vA (some o)), (2, vA (some m)), (3, vI i)]) (st' := [vI (i + 2), vA (some b), vI (xs (ni (i + 1))), vA (some o)]) [(.aload_n 0, 1), (.iload_n 3, 1), (.iconst 2, 1), (.iadd, 1)] ⟨dL_law_650, dL_law_651, dL_law_652, dL_law_653, rfl⟩ rfl ?_
  refine px_sald C 655 dL_law_654 rfl E.X (hi 2 (by decide)) ?_
  have hw : wp_X0_node o (xs (ni (i + 1))) (xs (ni (i + 2))) (g.srm mcG msG) (fun v9 h9 => v9 = (qNode X (xs (ni (i + 1))) (xs (ni (i + 2)))).1 ∧ CRep h9.c o jn tpa (X.ws (qNode X (xs (ni (i + 1))) (xs (ni (i + 2)))).2)) := q_node (h := g.srm mcG msG) I0.R hcG hsG (fun h9 R9 => ⟨rfl, R9⟩)
  refine px_cVh C 1 658 (mc2 := mcG) (ms2 := msG) [vI (xs (ni (i + 1))), vI (xs (ni (i + 2)))] [] dL_law_655 rfl E.no E.hm I0.Z I0.B (ok_X0_node hH hw) ⟨hc, hs⟩ q1963 q1964 q1965 q158 q1966 rfl hd_X0_node ⟨rfl, rfl, rfl⟩ ⟨o, rfl, I0.R.B.k⟩ (fun v1 g1 g2 hq1 e2 hz2 hb2 => ?_)
  obtain ⟨r1, rfl, er1, R1⟩ := hq1
  refine x_b C (pc' := 663) (L' := [(0, vA (some b)), (1, vA (some o)), (2, vA (some m)), (3, vI i)]) (st' := [vI (i + 1), vA (some b), vA (some m), vI r1]) [(.aload_n 2, 1), (.aload_n 0, 1), (.iload_n 3, 1), (.iconst 1, 1), (.iadd, 1)] ⟨dL_law_658, dL_law_659, dL_law_660, dL_law_661, dL_law_662, rfl⟩ rfl ?_
  refine px_sald C 664 dL_law_663 rfl E.X (hi 1 (by decide)) ?_
  refine x_b C (pc' := 668) (L' := [(0, vA (some b)), (1, vA (some o)), (2, vA (some m)), (3, vI i)]) (st' := [vI (i + 2), vA (some b), vI (xs (ni (i + 1))), vA (some m), vI r1]) [(.aload_n 0, 1), (.iload_n 3, 1), (.iconst 2, 1), (.iadd, 1)] ⟨dL_law_664, dL_law_665, dL_law_666, dL_law_667, rfl⟩ rfl ?_
  refine px_sald C 669 dL_law_668 rfl E.X (hi 2 (by decide)) ?_
  refine px_cVt C 672 [vI (xs (ni (i + 1))), vI (xs (ni (i + 2)))] [vI r1] dL_law_669 rfl (ok_X1_node hG (Q := fun v9 U => v9 = (qNode X (xs (ni (i + 1))) (xs (ni (i + 2)))).1 ∧ TwRep U (X.ws (qNode X (xs (ni (i + 1))) (xs (ni (i + 2)))).2)) (pt_node I0.W (fun U W9 => ⟨rfl, W9⟩))) q2833 q2834 q2835 q159 q2836 hd_X1_node ⟨rfl, rfl, rfl⟩ (fun v2 T2 hq2 => ?_)
  obtain ⟨r2, rfl, er2, W2⟩ := hq2
  refine x_icmp_eq C 967 675 dL_law_672 rfl rfl (fun _ => ?_) (fun h9 => absurd (er1.trans er2.symm) h9)
  obtain ⟨n1, n2, n3⟩ := LI.next e2 R1 W2 hz2 hb2
  exact k T2 g2 n1 n2 n3
theorem lc_value {mcG msG : Nat} (C : Cx l D s0 cL_law "RuleShuttleLaw" mn 4 2048 88096 mc0 ms0 (some .boolean) LQ K) (hG : G0 D s0) (E : LE s0 b N m xs) (I0 : LI s0 m o jn tpa T g X) (hi : ∀ j : Int32, j = 1 ∨ j = 2 ∨ j = 3 ∨ j = 4 ∨ j = 5 → ¬ (i + j < 0 ∨ N ≤ (i + j).toNatClampNeg)) (hc : mcG ≤ g.rc) (hs : msG ≤ g.rs)
    (k : ∀ T2 g2, LI s0 m o jn tpa T2 g2 (X.ws (qValue X (xs (ni (i + 1))) (xs (ni (i + 2)))).2) → g2.rc = g.rc - mcG → g2.rs = g.rs - msG → K 967 [(0, vA (some b)), (1, vA (some o)), (2, vA (some m)), (3, vI i)] [] (mix s0 m T2 g2)) : K 677 [(0, vA (some b)), (1, vA (some o)), (2, vA (some m)), (3, vI i)] [] (mix s0 m T g) := by
  have hH : G0 D (sH s0 m) := hG
  refine x_b C (pc' := 682) (L' := [(0, vA (some b)), (1, vA (some o)), (2, vA (some m)), (3, vI i)]) (st' := [vI (i + 1), vA (some b), vA (some o)]) [(.aload_n 1, 1), (.aload_n 0, 1), (.iload_n 3, 1), (.iconst 1, 1), (.iadd, 1)] ⟨dL_law_677, dL_law_678, dL_law_679, dL_law_680, dL_law_681, rfl⟩ rfl ?_
  refine px_sald C 683 dL_law_682 rfl E.X (hi 1 (by decide)) ?_
  refine x_b C (pc' := 687) (L' := [(0, vA (some b)), (1, vA (some o)), (2, vA (some m)), (3, vI i)]) (st' := [vI (i + 2), vA (some b), vI (xs (ni (i + 1))), vA (some o)]) [(.aload_n 0, 1), (.iload_n 3, 1), (.iconst 2, 1), (.iadd, 1)] ⟨dL_law_683, dL_law_684, dL_law_685, dL_law_686, rfl⟩ rfl ?_
  refine px_sald C 688 dL_law_687 rfl E.X (hi 2 (by decide)) ?_
  have hw : wp_X0_value o (xs (ni (i + 1))) (xs (ni (i + 2))) (g.srm mcG msG) (fun v9 h9 => v9 = (qValue X (xs (ni (i + 1))) (xs (ni (i + 2)))).1 ∧ CRep h9.c o jn tpa (X.ws (qValue X (xs (ni (i + 1))) (xs (ni (i + 2)))).2)) := q_value (h := g.srm mcG msG) I0.R (fun h9 R9 => ⟨rfl, R9⟩)
  refine px_cVh C 1 691 (mc2 := mcG) (ms2 := msG) [vI (xs (ni (i + 1))), vI (xs (ni (i + 2)))] [] dL_law_688 rfl E.no E.hm I0.Z I0.B (ok_X0_value hH hw) ⟨hc, hs⟩ q1986 q1987 q1988 q158 q1989 rfl hd_X0_value ⟨rfl, rfl, rfl⟩ ⟨o, rfl, I0.R.B.k⟩ (fun v1 g1 g2 hq1 e2 hz2 hb2 => ?_)
  obtain ⟨r1, rfl, er1, R1⟩ := hq1
  refine x_b C (pc' := 696) (L' := [(0, vA (some b)), (1, vA (some o)), (2, vA (some m)), (3, vI i)]) (st' := [vI (i + 1), vA (some b), vA (some m), vI r1]) [(.aload_n 2, 1), (.aload_n 0, 1), (.iload_n 3, 1), (.iconst 1, 1), (.iadd, 1)] ⟨dL_law_691, dL_law_692, dL_law_693, dL_law_694, dL_law_695, rfl⟩ rfl ?_
  refine px_sald C 697 dL_law_696 rfl E.X (hi 1 (by decide)) ?_
  refine x_b C (pc' := 701) (L' := [(0, vA (some b)), (1, vA (some o)), (2, vA (some m)), (3, vI i)]) (st' := [vI (i + 2), vA (some b), vI (xs (ni (i + 1))), vA (some m), vI r1]) [(.aload_n 0, 1), (.iload_n 3, 1), (.iconst 2, 1), (.iadd, 1)] ⟨dL_law_697, dL_law_698, dL_law_699, dL_law_700, rfl⟩ rfl ?_
  refine px_sald C 702 dL_law_701 rfl E.X (hi 2 (by decide)) ?_
  refine px_cVt C 705 [vI (xs (ni (i + 1))), vI (xs (ni (i + 2)))] [vI r1] dL_law_702 rfl (ok_X1_value hG (Q := fun v9 U => v9 = (qValue X (xs (ni (i + 1))) (xs (ni (i + 2)))).1 ∧ TwRep U (X.ws (qValue X (xs (ni (i + 1))) (xs (ni (i + 2)))).2)) (pt_value I0.W (fun U W9 => ⟨rfl, W9⟩))) q2845 q2846 q2847 q159 q2848 hd_X1_value ⟨rfl, rfl, rfl⟩ (fun v2 T2 hq2 => ?_)
  obtain ⟨r2, rfl, er2, W2⟩ := hq2
  refine x_icmp_eq C 967 708 dL_law_705 rfl rfl (fun _ => ?_) (fun h9 => absurd (er1.trans er2.symm) h9)
  obtain ⟨n1, n2, n3⟩ := LI.next e2 R1 W2 hz2 hb2
  exact k T2 g2 n1 n2 n3
theorem lc_knot {mcG msG : Nat} (C : Cx l D s0 cL_law "RuleShuttleLaw" mn 4 2048 88096 mc0 ms0 (some .boolean) LQ K) (hG : G0 D s0) (E : LE s0 b N m xs) (I0 : LI s0 m o jn tpa T g X) (hi : ∀ j : Int32, j = 1 ∨ j = 2 ∨ j = 3 ∨ j = 4 ∨ j = 5 → ¬ (i + j < 0 ∨ N ≤ (i + j).toNatClampNeg)) (hc : mcG ≤ g.rc) (hs : msG ≤ g.rs)
    (k : ∀ T2 g2, LI s0 m o jn tpa T2 g2 (X.ws (qKnot X (xs (ni (i + 1))) (xs (ni (i + 2))) (xs (ni (i + 3)))).2) → g2.rc = g.rc - mcG → g2.rs = g.rs - msG → K 967 [(0, vA (some b)), (1, vA (some o)), (2, vA (some m)), (3, vI i)] [] (mix s0 m T2 g2)) : K 710 [(0, vA (some b)), (1, vA (some o)), (2, vA (some m)), (3, vI i)] [] (mix s0 m T g) := by
  have hH : G0 D (sH s0 m) := hG
  refine x_b C (pc' := 715) (L' := [(0, vA (some b)), (1, vA (some o)), (2, vA (some m)), (3, vI i)]) (st' := [vI (i + 1), vA (some b), vA (some o)]) [(.aload_n 1, 1), (.aload_n 0, 1), (.iload_n 3, 1), (.iconst 1, 1), (.iadd, 1)] ⟨dL_law_710, dL_law_711, dL_law_712, dL_law_713, dL_law_714, rfl⟩ rfl ?_
  refine px_sald C 716 dL_law_715 rfl E.X (hi 1 (by decide)) ?_
  refine x_b C (pc' := 720) (L' := [(0, vA (some b)), (1, vA (some o)), (2, vA (some m)), (3, vI i)]) (st' := [vI (i + 2), vA (some b), vI (xs (ni (i + 1))), vA (some o)]) [(.aload_n 0, 1), (.iload_n 3, 1), (.iconst 2, 1), (.iadd, 1)] ⟨dL_law_716, dL_law_717, dL_law_718, dL_law_719, rfl⟩ rfl ?_
  refine px_sald C 721 dL_law_720 rfl E.X (hi 2 (by decide)) ?_
  refine x_b C (pc' := 725) (L' := [(0, vA (some b)), (1, vA (some o)), (2, vA (some m)), (3, vI i)]) (st' := [vI (i + 3), vA (some b), vI (xs (ni (i + 2))), vI (xs (ni (i + 1))), vA (some o)]) [(.aload_n 0, 1), (.iload_n 3, 1), (.iconst 3, 1), (.iadd, 1)] ⟨dL_law_721, dL_law_722, dL_law_723, dL_law_724, rfl⟩ rfl ?_
  refine px_sald C 726 dL_law_725 rfl E.X (hi 3 (by decide)) ?_
  have hw : wp_X0_knot o (xs (ni (i + 1))) (xs (ni (i + 2))) (xs (ni (i + 3))) (g.srm mcG msG) (fun v9 h9 => v9 = (qKnot X (xs (ni (i + 1))) (xs (ni (i + 2))) (xs (ni (i + 3)))).1 ∧ CRep h9.c o jn tpa (X.ws (qKnot X (xs (ni (i + 1))) (xs (ni (i + 2))) (xs (ni (i + 3)))).2)) := q_knot (h := g.srm mcG msG) I0.R (fun h9 R9 => ⟨rfl, R9⟩)
  refine px_cVh C 1 729 (mc2 := mcG) (ms2 := msG) [vI (xs (ni (i + 1))), vI (xs (ni (i + 2))), vI (xs (ni (i + 3)))] [] dL_law_726 rfl E.no E.hm I0.Z I0.B (ok_X0_knot hH hw) ⟨hc, hs⟩ q2000 q2001 q2002 q158 q2003 rfl hd_X0_knot ⟨rfl, rfl, rfl⟩ ⟨o, rfl, I0.R.B.k⟩ (fun v1 g1 g2 hq1 e2 hz2 hb2 => ?_)
  obtain ⟨r1, rfl, er1, R1⟩ := hq1
  refine x_b C (pc' := 734) (L' := [(0, vA (some b)), (1, vA (some o)), (2, vA (some m)), (3, vI i)]) (st' := [vI (i + 1), vA (some b), vA (some m), vI r1]) [(.aload_n 2, 1), (.aload_n 0, 1), (.iload_n 3, 1), (.iconst 1, 1), (.iadd, 1)] ⟨dL_law_729, dL_law_730, dL_law_731, dL_law_732, dL_law_733, rfl⟩ rfl ?_
  refine px_sald C 735 dL_law_734 rfl E.X (hi 1 (by decide)) ?_
  refine x_b C (pc' := 739) (L' := [(0, vA (some b)), (1, vA (some o)), (2, vA (some m)), (3, vI i)]) (st' := [vI (i + 2), vA (some b), vI (xs (ni (i + 1))), vA (some m), vI r1]) [(.aload_n 0, 1), (.iload_n 3, 1), (.iconst 2, 1), (.iadd, 1)] ⟨dL_law_735, dL_law_736, dL_law_737, dL_law_738, rfl⟩ rfl ?_
  refine px_sald C 740 dL_law_739 rfl E.X (hi 2 (by decide)) ?_
  refine x_b C (pc' := 744) (L' := [(0, vA (some b)), (1, vA (some o)), (2, vA (some m)), (3, vI i)]) (st' := [vI (i + 3), vA (some b), vI (xs (ni (i + 2))), vI (xs (ni (i + 1))), vA (some m), vI r1]) [(.aload_n 0, 1), (.iload_n 3, 1), (.iconst 3, 1), (.iadd, 1)] ⟨dL_law_740, dL_law_741, dL_law_742, dL_law_743, rfl⟩ rfl ?_
  refine px_sald C 745 dL_law_744 rfl E.X (hi 3 (by decide)) ?_
  refine px_cVt C 748 [vI (xs (ni (i + 1))), vI (xs (ni (i + 2))), vI (xs (ni (i + 3)))] [vI r1] dL_law_745 rfl (ok_X1_knot hG (Q := fun v9 U => v9 = (qKnot X (xs (ni (i + 1))) (xs (ni (i + 2))) (xs (ni (i + 3)))).1 ∧ TwRep U (X.ws (qKnot X (xs (ni (i + 1))) (xs (ni (i + 2))) (xs (ni (i + 3)))).2)) (pt_knot I0.W (fun U W9 => ⟨rfl, W9⟩))) q2853 q2854 q2855 q159 q2856 hd_X1_knot ⟨rfl, rfl, rfl⟩ (fun v2 T2 hq2 => ?_)
  obtain ⟨r2, rfl, er2, W2⟩ := hq2
  refine x_icmp_eq C 967 751 dL_law_748 rfl rfl (fun _ => ?_) (fun h9 => absurd (er1.trans er2.symm) h9)
  obtain ⟨n1, n2, n3⟩ := LI.next e2 R1 W2 hz2 hb2
  exact k T2 g2 n1 n2 n3
theorem lc_span {mcG msG : Nat} (C : Cx l D s0 cL_law "RuleShuttleLaw" mn 4 2048 88096 mc0 ms0 (some .boolean) LQ K) (hG : G0 D s0) (E : LE s0 b N m xs) (I0 : LI s0 m o jn tpa T g X) (hi : ∀ j : Int32, j = 1 ∨ j = 2 ∨ j = 3 ∨ j = 4 ∨ j = 5 → ¬ (i + j < 0 ∨ N ≤ (i + j).toNatClampNeg)) (hcG : 40 ≤ mcG) (hsG : 2000 ≤ msG) (hc : mcG ≤ g.rc) (hs : msG ≤ g.rs)
    (k : ∀ T2 g2, LI s0 m o jn tpa T2 g2 (X.ws (qSpan X (xs (ni (i + 1))) (xs (ni (i + 2))) (xs (ni (i + 3)))).2) → g2.rc = g.rc - mcG → g2.rs = g.rs - msG → K 967 [(0, vA (some b)), (1, vA (some o)), (2, vA (some m)), (3, vI i)] [] (mix s0 m T2 g2)) : K 753 [(0, vA (some b)), (1, vA (some o)), (2, vA (some m)), (3, vI i)] [] (mix s0 m T g) := by
  have hH : G0 D (sH s0 m) := hG
  refine x_b C (pc' := 758) (L' := [(0, vA (some b)), (1, vA (some o)), (2, vA (some m)), (3, vI i)]) (st' := [vI (i + 1), vA (some b), vA (some o)]) [(.aload_n 1, 1), (.aload_n 0, 1), (.iload_n 3, 1), (.iconst 1, 1), (.iadd, 1)] ⟨dL_law_753, dL_law_754, dL_law_755, dL_law_756, dL_law_757, rfl⟩ rfl ?_
  refine px_sald C 759 dL_law_758 rfl E.X (hi 1 (by decide)) ?_
  refine x_b C (pc' := 763) (L' := [(0, vA (some b)), (1, vA (some o)), (2, vA (some m)), (3, vI i)]) (st' := [vI (i + 2), vA (some b), vI (xs (ni (i + 1))), vA (some o)]) [(.aload_n 0, 1), (.iload_n 3, 1), (.iconst 2, 1), (.iadd, 1)] ⟨dL_law_759, dL_law_760, dL_law_761, dL_law_762, rfl⟩ rfl ?_
  refine px_sald C 764 dL_law_763 rfl E.X (hi 2 (by decide)) ?_
  refine x_b C (pc' := 768) (L' := [(0, vA (some b)), (1, vA (some o)), (2, vA (some m)), (3, vI i)]) (st' := [vI (i + 3), vA (some b), vI (xs (ni (i + 2))), vI (xs (ni (i + 1))), vA (some o)]) [(.aload_n 0, 1), (.iload_n 3, 1), (.iconst 3, 1), (.iadd, 1)] ⟨dL_law_764, dL_law_765, dL_law_766, dL_law_767, rfl⟩ rfl ?_
  refine px_sald C 769 dL_law_768 rfl E.X (hi 3 (by decide)) ?_
  have hw : wp_X0_span o (xs (ni (i + 1))) (xs (ni (i + 2))) (xs (ni (i + 3))) (g.srm mcG msG) (fun v9 h9 => v9 = (qSpan X (xs (ni (i + 1))) (xs (ni (i + 2))) (xs (ni (i + 3)))).1 ∧ CRep h9.c o jn tpa (X.ws (qSpan X (xs (ni (i + 1))) (xs (ni (i + 2))) (xs (ni (i + 3)))).2)) := q_span (h := g.srm mcG msG) I0.R hcG hsG (fun h9 R9 => ⟨rfl, R9⟩)
  refine px_cVh C 1 772 (mc2 := mcG) (ms2 := msG) [vI (xs (ni (i + 1))), vI (xs (ni (i + 2))), vI (xs (ni (i + 3)))] [] dL_law_769 rfl E.no E.hm I0.Z I0.B (ok_X0_span hH hw) ⟨hc, hs⟩ q2013 q2014 q2015 q158 q2016 rfl hd_X0_span ⟨rfl, rfl, rfl⟩ ⟨o, rfl, I0.R.B.k⟩ (fun v1 g1 g2 hq1 e2 hz2 hb2 => ?_)
  obtain ⟨r1, rfl, er1, R1⟩ := hq1
  refine x_b C (pc' := 777) (L' := [(0, vA (some b)), (1, vA (some o)), (2, vA (some m)), (3, vI i)]) (st' := [vI (i + 1), vA (some b), vA (some m), vI r1]) [(.aload_n 2, 1), (.aload_n 0, 1), (.iload_n 3, 1), (.iconst 1, 1), (.iadd, 1)] ⟨dL_law_772, dL_law_773, dL_law_774, dL_law_775, dL_law_776, rfl⟩ rfl ?_
  refine px_sald C 778 dL_law_777 rfl E.X (hi 1 (by decide)) ?_
  refine x_b C (pc' := 782) (L' := [(0, vA (some b)), (1, vA (some o)), (2, vA (some m)), (3, vI i)]) (st' := [vI (i + 2), vA (some b), vI (xs (ni (i + 1))), vA (some m), vI r1]) [(.aload_n 0, 1), (.iload_n 3, 1), (.iconst 2, 1), (.iadd, 1)] ⟨dL_law_778, dL_law_779, dL_law_780, dL_law_781, rfl⟩ rfl ?_
  refine px_sald C 783 dL_law_782 rfl E.X (hi 2 (by decide)) ?_
  refine x_b C (pc' := 787) (L' := [(0, vA (some b)), (1, vA (some o)), (2, vA (some m)), (3, vI i)]) (st' := [vI (i + 3), vA (some b), vI (xs (ni (i + 2))), vI (xs (ni (i + 1))), vA (some m), vI r1]) [(.aload_n 0, 1), (.iload_n 3, 1), (.iconst 3, 1), (.iadd, 1)] ⟨dL_law_783, dL_law_784, dL_law_785, dL_law_786, rfl⟩ rfl ?_
  refine px_sald C 788 dL_law_787 rfl E.X (hi 3 (by decide)) ?_
  refine px_cVt C 791 [vI (xs (ni (i + 1))), vI (xs (ni (i + 2))), vI (xs (ni (i + 3)))] [vI r1] dL_law_788 rfl (ok_X1_span hG (Q := fun v9 U => v9 = (qSpan X (xs (ni (i + 1))) (xs (ni (i + 2))) (xs (ni (i + 3)))).1 ∧ TwRep U (X.ws (qSpan X (xs (ni (i + 1))) (xs (ni (i + 2))) (xs (ni (i + 3)))).2)) (pt_span I0.W (fun U W9 => ⟨rfl, W9⟩))) q2857 q2858 q2859 q159 q2860 hd_X1_span ⟨rfl, rfl, rfl⟩ (fun v2 T2 hq2 => ?_)
  obtain ⟨r2, rfl, er2, W2⟩ := hq2
  refine x_icmp_eq C 967 794 dL_law_791 rfl rfl (fun _ => ?_) (fun h9 => absurd (er1.trans er2.symm) h9)
  obtain ⟨n1, n2, n3⟩ := LI.next e2 R1 W2 hz2 hb2
  exact k T2 g2 n1 n2 n3
theorem lc_run {mcG msG : Nat} (C : Cx l D s0 cL_law "RuleShuttleLaw" mn 4 2048 88096 mc0 ms0 (some .boolean) LQ K) (hG : G0 D s0) (E : LE s0 b N m xs) (I0 : LI s0 m o jn tpa T g X) (hi : ∀ j : Int32, j = 1 ∨ j = 2 ∨ j = 3 ∨ j = 4 ∨ j = 5 → ¬ (i + j < 0 ∨ N ≤ (i + j).toNatClampNeg)) (hcG : 40 ≤ mcG) (hsG : 2000 ≤ msG) (hc : mcG ≤ g.rc) (hs : msG ≤ g.rs)
    (k : ∀ T2 g2, LI s0 m o jn tpa T2 g2 (X.ws (qRun X (xs (ni (i + 1)))).2) → g2.rc = g.rc - mcG → g2.rs = g.rs - msG → K 967 [(0, vA (some b)), (1, vA (some o)), (2, vA (some m)), (3, vI i)] [] (mix s0 m T2 g2)) : K 796 [(0, vA (some b)), (1, vA (some o)), (2, vA (some m)), (3, vI i)] [] (mix s0 m T g) := by
  have hH : G0 D (sH s0 m) := hG
  refine x_b C (pc' := 801) (L' := [(0, vA (some b)), (1, vA (some o)), (2, vA (some m)), (3, vI i)]) (st' := [vI (i + 1), vA (some b), vA (some o)]) [(.aload_n 1, 1), (.aload_n 0, 1), (.iload_n 3, 1), (.iconst 1, 1), (.iadd, 1)] ⟨dL_law_796, dL_law_797, dL_law_798, dL_law_799, dL_law_800, rfl⟩ rfl ?_
  refine px_sald C 802 dL_law_801 rfl E.X (hi 1 (by decide)) ?_
  have hw : wp_X0_run o (xs (ni (i + 1))) (g.srm mcG msG) (fun v9 h9 => v9 = (qRun X (xs (ni (i + 1)))).1 ∧ CRep h9.c o jn tpa (X.ws (qRun X (xs (ni (i + 1)))).2)) := q_run (h := g.srm mcG msG) I0.R hcG hsG (fun h9 R9 => ⟨rfl, R9⟩)
  refine px_cVh C 1 805 (mc2 := mcG) (ms2 := msG) [vI (xs (ni (i + 1)))] [] dL_law_802 rfl E.no E.hm I0.Z I0.B (ok_X0_run hH hw) ⟨hc, hs⟩ q2021 q2022 q2023 q158 q2024 rfl hd_X0_run ⟨rfl, rfl, rfl⟩ ⟨o, rfl, I0.R.B.k⟩ (fun v1 g1 g2 hq1 e2 hz2 hb2 => ?_)
  obtain ⟨r1, rfl, er1, R1⟩ := hq1
  refine x_b C (pc' := 810) (L' := [(0, vA (some b)), (1, vA (some o)), (2, vA (some m)), (3, vI i)]) (st' := [vI (i + 1), vA (some b), vA (some m), vI r1]) [(.aload_n 2, 1), (.aload_n 0, 1), (.iload_n 3, 1), (.iconst 1, 1), (.iadd, 1)] ⟨dL_law_805, dL_law_806, dL_law_807, dL_law_808, dL_law_809, rfl⟩ rfl ?_
  refine px_sald C 811 dL_law_810 rfl E.X (hi 1 (by decide)) ?_
  refine px_cVt C 814 [vI (xs (ni (i + 1)))] [vI r1] dL_law_811 rfl (ok_X1_run hG (Q := fun v9 U => v9 = (qRun X (xs (ni (i + 1)))).1 ∧ TwRep U (X.ws (qRun X (xs (ni (i + 1)))).2)) (pt_run I0.W (fun U W9 => ⟨rfl, W9⟩))) q2861 q2862 q2863 q159 q2864 hd_X1_run ⟨rfl, rfl, rfl⟩ (fun v2 T2 hq2 => ?_)
  obtain ⟨r2, rfl, er2, W2⟩ := hq2
  refine x_icmp_eq C 967 817 dL_law_814 rfl rfl (fun _ => ?_) (fun h9 => absurd (er1.trans er2.symm) h9)
  obtain ⟨n1, n2, n3⟩ := LI.next e2 R1 W2 hz2 hb2
  exact k T2 g2 n1 n2 n3
theorem lc_longest {mcG msG : Nat} (C : Cx l D s0 cL_law "RuleShuttleLaw" mn 4 2048 88096 mc0 ms0 (some .boolean) LQ K) (hG : G0 D s0) (E : LE s0 b N m xs) (I0 : LI s0 m o jn tpa T g X) (hi : ∀ j : Int32, j = 1 ∨ j = 2 ∨ j = 3 ∨ j = 4 ∨ j = 5 → ¬ (i + j < 0 ∨ N ≤ (i + j).toNatClampNeg)) (hcG : 40 ≤ mcG) (hsG : 2000 ≤ msG) (hc : mcG ≤ g.rc) (hs : msG ≤ g.rs)
    (k : ∀ T2 g2, LI s0 m o jn tpa T2 g2 (X.ws (qLongest X).2) → g2.rc = g.rc - mcG → g2.rs = g.rs - msG → K 967 [(0, vA (some b)), (1, vA (some o)), (2, vA (some m)), (3, vI i)] [] (mix s0 m T2 g2)) : K 819 [(0, vA (some b)), (1, vA (some o)), (2, vA (some m)), (3, vI i)] [] (mix s0 m T g) := by
  have hH : G0 D (sH s0 m) := hG
  refine x_b C (pc' := 820) (L' := [(0, vA (some b)), (1, vA (some o)), (2, vA (some m)), (3, vI i)]) (st' := [vA (some o)]) [(.aload_n 1, 1)] ⟨dL_law_819, rfl⟩ rfl ?_
  have hw : wp_X0_longest o  (g.srm mcG msG) (fun v9 h9 => v9 = (qLongest X).1 ∧ CRep h9.c o jn tpa (X.ws (qLongest X).2)) := q_longest (h := g.srm mcG msG) I0.R hcG hsG (fun h9 R9 => ⟨rfl, R9⟩)
  refine px_cVh C 1 823 (mc2 := mcG) (ms2 := msG) [] [] dL_law_820 rfl E.no E.hm I0.Z I0.B (ok_X0_longest hH hw) ⟨hc, hs⟩ q2052 q2053 q2054 q158 q2055 rfl hd_X0_longest ⟨rfl, rfl, rfl⟩ ⟨o, rfl, I0.R.B.k⟩ (fun v1 g1 g2 hq1 e2 hz2 hb2 => ?_)
  obtain ⟨r1, rfl, er1, R1⟩ := hq1
  refine x_b C (pc' := 824) (L' := [(0, vA (some b)), (1, vA (some o)), (2, vA (some m)), (3, vI i)]) (st' := [vA (some m), vI r1]) [(.aload_n 2, 1)] ⟨dL_law_823, rfl⟩ rfl ?_
  refine px_cVt C 827 [] [vI r1] dL_law_824 rfl (ok_X1_longest hG (Q := fun v9 U => v9 = (qLongest X).1 ∧ TwRep U (X.ws (qLongest X).2)) (pt_longest I0.W (fun U W9 => ⟨rfl, W9⟩))) q2865 q2866 q2867 q159 q2868 hd_X1_longest ⟨rfl, rfl, rfl⟩ (fun v2 T2 hq2 => ?_)
  obtain ⟨r2, rfl, er2, W2⟩ := hq2
  refine x_icmp_eq C 967 830 dL_law_827 rfl rfl (fun _ => ?_) (fun h9 => absurd (er1.trans er2.symm) h9)
  obtain ⟨n1, n2, n3⟩ := LI.next e2 R1 W2 hz2 hb2
  exact k T2 g2 n1 n2 n3
theorem lc_put {mcG msG : Nat} (C : Cx l D s0 cL_law "RuleShuttleLaw" mn 4 2048 88096 mc0 ms0 (some .boolean) LQ K) (hG : G0 D s0) (E : LE s0 b N m xs) (I0 : LI s0 m o jn tpa T g X) (hi : ∀ j : Int32, j = 1 ∨ j = 2 ∨ j = 3 ∨ j = 4 ∨ j = 5 → ¬ (i + j < 0 ∨ N ≤ (i + j).toNatClampNeg)) (hcG : 40 ≤ mcG) (hsG : 5000 ≤ msG) (hc : mcG ≤ g.rc) (hs : msG ≤ g.rs)
    (k : ∀ T2 g2, LI s0 m o jn tpa T2 g2 (xPut X (xs (ni (i + 1))) (xs (ni (i + 2)))) → g2.rc = g.rc - mcG → g2.rs = g.rs - msG → K 967 [(0, vA (some b)), (1, vA (some o)), (2, vA (some m)), (3, vI i)] [] (mix s0 m T2 g2)) : K 832 [(0, vA (some b)), (1, vA (some o)), (2, vA (some m)), (3, vI i)] [] (mix s0 m T g) := by
  have hH : G0 D (sH s0 m) := hG
  refine x_b C (pc' := 837) (L' := [(0, vA (some b)), (1, vA (some o)), (2, vA (some m)), (3, vI i)]) (st' := [vI (i + 1), vA (some b), vA (some o)]) [(.aload_n 1, 1), (.aload_n 0, 1), (.iload_n 3, 1), (.iconst 1, 1), (.iadd, 1)] ⟨dL_law_832, dL_law_833, dL_law_834, dL_law_835, dL_law_836, rfl⟩ rfl ?_
  refine px_sald C 838 dL_law_837 rfl E.X (hi 1 (by decide)) ?_
  refine x_b C (pc' := 842) (L' := [(0, vA (some b)), (1, vA (some o)), (2, vA (some m)), (3, vI i)]) (st' := [vI (i + 2), vA (some b), vI (xs (ni (i + 1))), vA (some o)]) [(.aload_n 0, 1), (.iload_n 3, 1), (.iconst 2, 1), (.iadd, 1)] ⟨dL_law_838, dL_law_839, dL_law_840, dL_law_841, rfl⟩ rfl ?_
  refine px_sald C 843 dL_law_842 rfl E.X (hi 2 (by decide)) ?_
  have hw : wp_X0_put o (xs (ni (i + 1))) (xs (ni (i + 2))) (g.srm mcG msG) (fun v9 h9 => v9 = (qPut X (xs (ni (i + 1))) (xs (ni (i + 2)))) ∧ CRep h9.c o jn tpa (xPut X (xs (ni (i + 1))) (xs (ni (i + 2))))) := q_put (h := g.srm mcG msG) I0.R hcG hsG (fun h9 R9 => ⟨rfl, R9⟩)
  refine px_cVh C 1 846 (mc2 := mcG) (ms2 := msG) [vI (xs (ni (i + 1))), vI (xs (ni (i + 2)))] [] dL_law_843 rfl E.no E.hm I0.Z I0.B (ok_X0_put hH hw) ⟨hc, hs⟩ q2061 q2062 q2063 q158 q2064 rfl hd_X0_put ⟨rfl, rfl, rfl⟩ ⟨o, rfl, I0.R.B.k⟩ (fun v1 g1 g2 hq1 e2 hz2 hb2 => ?_)
  obtain ⟨r1, rfl, er1, R1⟩ := hq1
  refine x_b C (pc' := 851) (L' := [(0, vA (some b)), (1, vA (some o)), (2, vA (some m)), (3, vI i)]) (st' := [vI (i + 1), vA (some b), vA (some m), vI r1]) [(.aload_n 2, 1), (.aload_n 0, 1), (.iload_n 3, 1), (.iconst 1, 1), (.iadd, 1)] ⟨dL_law_846, dL_law_847, dL_law_848, dL_law_849, dL_law_850, rfl⟩ rfl ?_
  refine px_sald C 852 dL_law_851 rfl E.X (hi 1 (by decide)) ?_
  refine x_b C (pc' := 856) (L' := [(0, vA (some b)), (1, vA (some o)), (2, vA (some m)), (3, vI i)]) (st' := [vI (i + 2), vA (some b), vI (xs (ni (i + 1))), vA (some m), vI r1]) [(.aload_n 0, 1), (.iload_n 3, 1), (.iconst 2, 1), (.iadd, 1)] ⟨dL_law_852, dL_law_853, dL_law_854, dL_law_855, rfl⟩ rfl ?_
  refine px_sald C 857 dL_law_856 rfl E.X (hi 2 (by decide)) ?_
  refine px_cVt C 860 [vI (xs (ni (i + 1))), vI (xs (ni (i + 2)))] [vI r1] dL_law_857 rfl (ok_X1_put hG (Q := fun v9 U => v9 = (qPut X (xs (ni (i + 1))) (xs (ni (i + 2)))) ∧ TwRep U (xPut X (xs (ni (i + 1))) (xs (ni (i + 2))))) (pt_put I0.W (fun U W9 => ⟨rfl, W9⟩))) q2869 q2870 q2871 q159 q2872 hd_X1_put ⟨rfl, rfl, rfl⟩ (fun v2 T2 hq2 => ?_)
  obtain ⟨r2, rfl, er2, W2⟩ := hq2
  refine x_icmp_eq C 967 863 dL_law_860 rfl rfl (fun _ => ?_) (fun h9 => absurd (er1.trans er2.symm) h9)
  obtain ⟨n1, n2, n3⟩ := LI.next e2 R1 W2 hz2 hb2
  exact k T2 g2 n1 n2 n3
theorem lc_give {mcG msG : Nat} (C : Cx l D s0 cL_law "RuleShuttleLaw" mn 4 2048 88096 mc0 ms0 (some .boolean) LQ K) (hG : G0 D s0) (E : LE s0 b N m xs) (I0 : LI s0 m o jn tpa T g X) (hi : ∀ j : Int32, j = 1 ∨ j = 2 ∨ j = 3 ∨ j = 4 ∨ j = 5 → ¬ (i + j < 0 ∨ N ≤ (i + j).toNatClampNeg)) (hcG : 40 ≤ mcG) (hsG : 5000 ≤ msG) (hc : mcG ≤ g.rc) (hs : msG ≤ g.rs)
    (k : ∀ T2 g2, LI s0 m o jn tpa T2 g2 (xGive X (xs (ni (i + 1))) (xs (ni (i + 2)))) → g2.rc = g.rc - mcG → g2.rs = g.rs - msG → K 967 [(0, vA (some b)), (1, vA (some o)), (2, vA (some m)), (3, vI i)] [] (mix s0 m T2 g2)) : K 865 [(0, vA (some b)), (1, vA (some o)), (2, vA (some m)), (3, vI i)] [] (mix s0 m T g) := by
  have hH : G0 D (sH s0 m) := hG
  refine x_b C (pc' := 870) (L' := [(0, vA (some b)), (1, vA (some o)), (2, vA (some m)), (3, vI i)]) (st' := [vI (i + 1), vA (some b), vA (some o)]) [(.aload_n 1, 1), (.aload_n 0, 1), (.iload_n 3, 1), (.iconst 1, 1), (.iadd, 1)] ⟨dL_law_865, dL_law_866, dL_law_867, dL_law_868, dL_law_869, rfl⟩ rfl ?_
  refine px_sald C 871 dL_law_870 rfl E.X (hi 1 (by decide)) ?_
  refine x_b C (pc' := 875) (L' := [(0, vA (some b)), (1, vA (some o)), (2, vA (some m)), (3, vI i)]) (st' := [vI (i + 2), vA (some b), vI (xs (ni (i + 1))), vA (some o)]) [(.aload_n 0, 1), (.iload_n 3, 1), (.iconst 2, 1), (.iadd, 1)] ⟨dL_law_871, dL_law_872, dL_law_873, dL_law_874, rfl⟩ rfl ?_
  refine px_sald C 876 dL_law_875 rfl E.X (hi 2 (by decide)) ?_
  have hw : wp_X0_give o (xs (ni (i + 1))) (xs (ni (i + 2))) (g.srm mcG msG) (fun v9 h9 => v9 = (qGive X (xs (ni (i + 1))) (xs (ni (i + 2)))) ∧ CRep h9.c o jn tpa (xGive X (xs (ni (i + 1))) (xs (ni (i + 2))))) := q_give (h := g.srm mcG msG) I0.R hcG hsG (fun h9 R9 => ⟨rfl, R9⟩)
  refine px_cVh C 1 879 (mc2 := mcG) (ms2 := msG) [vI (xs (ni (i + 1))), vI (xs (ni (i + 2)))] [] dL_law_876 rfl E.no E.hm I0.Z I0.B (ok_X0_give hH hw) ⟨hc, hs⟩ q2088 q2089 q2090 q158 q2091 rfl hd_X0_give ⟨rfl, rfl, rfl⟩ ⟨o, rfl, I0.R.B.k⟩ (fun v1 g1 g2 hq1 e2 hz2 hb2 => ?_)
  obtain ⟨r1, rfl, er1, R1⟩ := hq1
  refine x_b C (pc' := 884) (L' := [(0, vA (some b)), (1, vA (some o)), (2, vA (some m)), (3, vI i)]) (st' := [vI (i + 1), vA (some b), vA (some m), vI r1]) [(.aload_n 2, 1), (.aload_n 0, 1), (.iload_n 3, 1), (.iconst 1, 1), (.iadd, 1)] ⟨dL_law_879, dL_law_880, dL_law_881, dL_law_882, dL_law_883, rfl⟩ rfl ?_
  refine px_sald C 885 dL_law_884 rfl E.X (hi 1 (by decide)) ?_
  refine x_b C (pc' := 889) (L' := [(0, vA (some b)), (1, vA (some o)), (2, vA (some m)), (3, vI i)]) (st' := [vI (i + 2), vA (some b), vI (xs (ni (i + 1))), vA (some m), vI r1]) [(.aload_n 0, 1), (.iload_n 3, 1), (.iconst 2, 1), (.iadd, 1)] ⟨dL_law_885, dL_law_886, dL_law_887, dL_law_888, rfl⟩ rfl ?_
  refine px_sald C 890 dL_law_889 rfl E.X (hi 2 (by decide)) ?_
  refine px_cVt C 893 [vI (xs (ni (i + 1))), vI (xs (ni (i + 2)))] [vI r1] dL_law_890 rfl (ok_X1_give hG (Q := fun v9 U => v9 = (qGive X (xs (ni (i + 1))) (xs (ni (i + 2)))) ∧ TwRep U (xGive X (xs (ni (i + 1))) (xs (ni (i + 2))))) (pt_give I0.W (fun U W9 => ⟨rfl, W9⟩))) q2897 q2898 q2899 q159 q2900 hd_X1_give ⟨rfl, rfl, rfl⟩ (fun v2 T2 hq2 => ?_)
  obtain ⟨r2, rfl, er2, W2⟩ := hq2
  refine x_icmp_eq C 967 896 dL_law_893 rfl rfl (fun _ => ?_) (fun h9 => absurd (er1.trans er2.symm) h9)
  obtain ⟨n1, n2, n3⟩ := LI.next e2 R1 W2 hz2 hb2
  exact k T2 g2 n1 n2 n3
theorem lc_graft {mcG msG : Nat} (C : Cx l D s0 cL_law "RuleShuttleLaw" mn 4 2048 88096 mc0 ms0 (some .boolean) LQ K) (hG : G0 D s0) (E : LE s0 b N m xs) (I0 : LI s0 m o jn tpa T g X) (hi : ∀ j : Int32, j = 1 ∨ j = 2 ∨ j = 3 ∨ j = 4 ∨ j = 5 → ¬ (i + j < 0 ∨ N ≤ (i + j).toNatClampNeg)) (hcG : inR (xs (ni (i + 2))) (X.m + 1) → X.tr ≠ none → (∀ r, X.tr = some r → inR (xs (ni (i + 1))) r.1.n) → 1000 + 64 * X.m ≤ mcG) (hsG : inR (xs (ni (i + 2))) (X.m + 1) → X.tr ≠ none → (∀ r, X.tr = some r → inR (xs (ni (i + 1))) r.1.n) → 14000 + 1024 * X.m ≤ msG) (hc : mcG ≤ g.rc) (hs : msG ≤ g.rs)
    (k : ∀ T2 g2, LI s0 m o jn tpa T2 g2 (xGraft X (xs (ni (i + 1))) (xs (ni (i + 2)))) → g2.rc = g.rc - mcG → g2.rs = g.rs - msG → K 967 [(0, vA (some b)), (1, vA (some o)), (2, vA (some m)), (3, vI i)] [] (mix s0 m T2 g2)) : K 898 [(0, vA (some b)), (1, vA (some o)), (2, vA (some m)), (3, vI i)] [] (mix s0 m T g) := by
  have hH : G0 D (sH s0 m) := hG
  refine x_b C (pc' := 903) (L' := [(0, vA (some b)), (1, vA (some o)), (2, vA (some m)), (3, vI i)]) (st' := [vI (i + 1), vA (some b), vA (some o)]) [(.aload_n 1, 1), (.aload_n 0, 1), (.iload_n 3, 1), (.iconst 1, 1), (.iadd, 1)] ⟨dL_law_898, dL_law_899, dL_law_900, dL_law_901, dL_law_902, rfl⟩ rfl ?_
  refine px_sald C 904 dL_law_903 rfl E.X (hi 1 (by decide)) ?_
  refine x_b C (pc' := 908) (L' := [(0, vA (some b)), (1, vA (some o)), (2, vA (some m)), (3, vI i)]) (st' := [vI (i + 2), vA (some b), vI (xs (ni (i + 1))), vA (some o)]) [(.aload_n 0, 1), (.iload_n 3, 1), (.iconst 2, 1), (.iadd, 1)] ⟨dL_law_904, dL_law_905, dL_law_906, dL_law_907, rfl⟩ rfl ?_
  refine px_sald C 909 dL_law_908 rfl E.X (hi 2 (by decide)) ?_
  have hw : wp_X0_graft o (xs (ni (i + 1))) (xs (ni (i + 2))) (g.srm mcG msG) (fun v9 h9 => v9 = (qGraft X (xs (ni (i + 1))) (xs (ni (i + 2)))) ∧ CRep h9.c o jn tpa (xGraft X (xs (ni (i + 1))) (xs (ni (i + 2))))) := q_graft (h := g.srm mcG msG) I0.R hcG hsG (fun h9 R9 => ⟨rfl, R9⟩)
  refine px_cVhW C 1 912 (mc2 := mcG) (ms2 := msG) [vI (xs (ni (i + 1))), vI (xs (ni (i + 2)))] [] dL_law_909 rfl E.no E.hm I0.Z I0.B (ok_X0_graft hH hw) ⟨hc, hs⟩ q2092 q2093 q2094 q158 q2095 rfl hd_X0_graft ⟨rfl, rfl, rfl⟩ ⟨o, rfl, I0.R.B.k⟩ (fun v1 g1 g2 hq1 e2 hz2 hb2 => ?_)
  obtain ⟨r1, rfl, er1, R1⟩ := hq1
  refine x_b C (pc' := 917) (L' := [(0, vA (some b)), (1, vA (some o)), (2, vA (some m)), (3, vI i)]) (st' := [vI (i + 1), vA (some b), vA (some m), vI r1]) [(.aload_n 2, 1), (.aload_n 0, 1), (.iload_n 3, 1), (.iconst 1, 1), (.iadd, 1)] ⟨dL_law_912, dL_law_913, dL_law_914, dL_law_915, dL_law_916, rfl⟩ rfl ?_
  refine px_sald C 918 dL_law_917 rfl E.X (hi 1 (by decide)) ?_
  refine x_b C (pc' := 922) (L' := [(0, vA (some b)), (1, vA (some o)), (2, vA (some m)), (3, vI i)]) (st' := [vI (i + 2), vA (some b), vI (xs (ni (i + 1))), vA (some m), vI r1]) [(.aload_n 0, 1), (.iload_n 3, 1), (.iconst 2, 1), (.iadd, 1)] ⟨dL_law_918, dL_law_919, dL_law_920, dL_law_921, rfl⟩ rfl ?_
  refine px_sald C 923 dL_law_922 rfl E.X (hi 2 (by decide)) ?_
  refine px_cVt C 926 [vI (xs (ni (i + 1))), vI (xs (ni (i + 2)))] [vI r1] dL_law_923 rfl (ok_X1_graft hG (Q := fun v9 U => v9 = (qGraft X (xs (ni (i + 1))) (xs (ni (i + 2)))) ∧ TwRep U (xGraft X (xs (ni (i + 1))) (xs (ni (i + 2))))) (pt_graft I0.W (fun U W9 => ⟨rfl, W9⟩))) q2901 q2902 q2903 q159 q2904 hd_X1_graft ⟨rfl, rfl, rfl⟩ (fun v2 T2 hq2 => ?_)
  obtain ⟨r2, rfl, er2, W2⟩ := hq2
  refine x_icmp_eq C 967 929 dL_law_926 rfl rfl (fun _ => ?_) (fun h9 => absurd (er1.trans er2.symm) h9)
  obtain ⟨n1, n2, n3⟩ := LI.next e2 R1 W2 hz2 hb2
  exact k T2 g2 n1 n2 n3
theorem lc_anew {mcG msG : Nat} (C : Cx l D s0 cL_law "RuleShuttleLaw" mn 4 2048 88096 mc0 ms0 (some .boolean) LQ K) (hG : G0 D s0) (E : LE s0 b N m xs) (I0 : LI s0 m o jn tpa T g X) (hi : ∀ j : Int32, j = 1 ∨ j = 2 ∨ j = 3 ∨ j = 4 ∨ j = 5 → ¬ (i + j < 0 ∨ N ≤ (i + j).toNatClampNeg)) (hc : mcG ≤ g.rc) (hs : msG ≤ g.rs)
    (k : ∀ T2 g2, LI s0 m o jn tpa T2 g2 (X.ws (qAnew X (xs (ni (i + 1)))).2) → g2.rc = g.rc - mcG → g2.rs = g.rs - msG → K 967 [(0, vA (some b)), (1, vA (some o)), (2, vA (some m)), (3, vI i)] [] (mix s0 m T2 g2)) : K 931 [(0, vA (some b)), (1, vA (some o)), (2, vA (some m)), (3, vI i)] [] (mix s0 m T g) := by
  have hH : G0 D (sH s0 m) := hG
  refine x_b C (pc' := 936) (L' := [(0, vA (some b)), (1, vA (some o)), (2, vA (some m)), (3, vI i)]) (st' := [vI (i + 1), vA (some b), vA (some o)]) [(.aload_n 1, 1), (.aload_n 0, 1), (.iload_n 3, 1), (.iconst 1, 1), (.iadd, 1)] ⟨dL_law_931, dL_law_932, dL_law_933, dL_law_934, dL_law_935, rfl⟩ rfl ?_
  refine px_sald C 937 dL_law_936 rfl E.X (hi 1 (by decide)) ?_
  have hw : wp_X0_anew o (xs (ni (i + 1))) (g.srm mcG msG) (fun v9 h9 => v9 = (qAnew X (xs (ni (i + 1)))).1 ∧ CRep h9.c o jn tpa (X.ws (qAnew X (xs (ni (i + 1)))).2)) := q_anew (h := g.srm mcG msG) I0.R (fun h9 R9 => ⟨rfl, R9⟩)
  refine px_cVh C 1 940 (mc2 := mcG) (ms2 := msG) [vI (xs (ni (i + 1)))] [] dL_law_937 rfl E.no E.hm I0.Z I0.B (ok_X0_anew hH hw) ⟨hc, hs⟩ q2174 q2175 q2176 q158 q2177 rfl hd_X0_anew ⟨rfl, rfl, rfl⟩ ⟨o, rfl, I0.R.B.k⟩ (fun v1 g1 g2 hq1 e2 hz2 hb2 => ?_)
  obtain ⟨r1, rfl, er1, R1⟩ := hq1
  refine x_b C (pc' := 945) (L' := [(0, vA (some b)), (1, vA (some o)), (2, vA (some m)), (3, vI i)]) (st' := [vI (i + 1), vA (some b), vA (some m), vI r1]) [(.aload_n 2, 1), (.aload_n 0, 1), (.iload_n 3, 1), (.iconst 1, 1), (.iadd, 1)] ⟨dL_law_940, dL_law_941, dL_law_942, dL_law_943, dL_law_944, rfl⟩ rfl ?_
  refine px_sald C 946 dL_law_945 rfl E.X (hi 1 (by decide)) ?_
  refine px_cVt C 949 [vI (xs (ni (i + 1)))] [vI r1] dL_law_946 rfl (ok_X1_anew hG (Q := fun v9 U => v9 = (qAnew X (xs (ni (i + 1)))).1 ∧ TwRep U (X.ws (qAnew X (xs (ni (i + 1)))).2)) (pt_anew I0.W (fun U W9 => ⟨rfl, W9⟩))) q2913 q2914 q2915 q159 q2916 hd_X1_anew ⟨rfl, rfl, rfl⟩ (fun v2 T2 hq2 => ?_)
  obtain ⟨r2, rfl, er2, W2⟩ := hq2
  refine x_icmp_eq C 967 952 dL_law_949 rfl rfl (fun _ => ?_) (fun h9 => absurd (er1.trans er2.symm) h9)
  obtain ⟨n1, n2, n3⟩ := LI.next e2 R1 W2 hz2 hb2
  exact k T2 g2 n1 n2 n3
theorem lc_digest {mcG msG : Nat} (C : Cx l D s0 cL_law "RuleShuttleLaw" mn 4 2048 88096 mc0 ms0 (some .boolean) LQ K) (hG : G0 D s0) (E : LE s0 b N m xs) (I0 : LI s0 m o jn tpa T g X) (hi : ∀ j : Int32, j = 1 ∨ j = 2 ∨ j = 3 ∨ j = 4 ∨ j = 5 → ¬ (i + j < 0 ∨ N ≤ (i + j).toNatClampNeg)) (hcG : 40 ≤ mcG) (hsG : 2000 ≤ msG) (hc : mcG ≤ g.rc) (hs : msG ≤ g.rs)
    (k : ∀ T2 g2, LI s0 m o jn tpa T2 g2 (X.ws (qDigest X).2) → g2.rc = g.rc - mcG → g2.rs = g.rs - msG → K 967 [(0, vA (some b)), (1, vA (some o)), (2, vA (some m)), (3, vI i)] [] (mix s0 m T2 g2)) : K 954 [(0, vA (some b)), (1, vA (some o)), (2, vA (some m)), (3, vI i)] [] (mix s0 m T g) := by
  have hH : G0 D (sH s0 m) := hG
  refine x_b C (pc' := 955) (L' := [(0, vA (some b)), (1, vA (some o)), (2, vA (some m)), (3, vI i)]) (st' := [vA (some o)]) [(.aload_n 1, 1)] ⟨dL_law_954, rfl⟩ rfl ?_
  have hw : wp_X0_digest o  (g.srm mcG msG) (fun v9 h9 => v9 = (qDigest X).1 ∧ CRep h9.c o jn tpa (X.ws (qDigest X).2)) := q_digest (h := g.srm mcG msG) I0.R hcG hsG (fun h9 R9 => ⟨rfl, R9⟩)
  refine px_cVh C 1 958 (mc2 := mcG) (ms2 := msG) [] [] dL_law_955 rfl E.no E.hm I0.Z I0.B (ok_X0_digest hH hw) ⟨hc, hs⟩ q2178 q2179 q2180 q158 q2181 rfl hd_X0_digest ⟨rfl, rfl, rfl⟩ ⟨o, rfl, I0.R.B.k⟩ (fun v1 g1 g2 hq1 e2 hz2 hb2 => ?_)
  obtain ⟨r1, rfl, er1, R1⟩ := hq1
  refine x_b C (pc' := 959) (L' := [(0, vA (some b)), (1, vA (some o)), (2, vA (some m)), (3, vI i)]) (st' := [vA (some m), vI r1]) [(.aload_n 2, 1)] ⟨dL_law_958, rfl⟩ rfl ?_
  refine px_cVt C 962 [] [vI r1] dL_law_959 rfl (ok_X1_digest hG (Q := fun v9 U => v9 = (qDigest X).1 ∧ TwRep U (X.ws (qDigest X).2)) (pt_digest I0.W (fun U W9 => ⟨rfl, W9⟩))) q2917 q2918 q2919 q159 q2920 hd_X1_digest ⟨rfl, rfl, rfl⟩ (fun v2 T2 hq2 => ?_)
  obtain ⟨r2, rfl, er2, W2⟩ := hq2
  refine x_icmp_eq C 967 965 dL_law_962 rfl rfl (fun _ => ?_) (fun h9 => absurd (er1.trans er2.symm) h9)
  obtain ⟨n1, n2, n3⟩ := LI.next e2 R1 W2 hz2 hb2
  exact k T2 g2 n1 n2 n3
end LAWC
