/-! plain: ps6 -/
set_option maxRecDepth 100000
section
variable {T T0 : TS} {tp : Nat → Nat} {n : Nat} {t : Tk} {A : PG} {p c0 pa : Nat} {cs : Ex} {sk : Int32}

/-- a rule that is being read: codes behind those there were. -/
def TwV (T0 U : TS) (c0 : Nat) (cs : Ex) (pa : Nat) (sk : Int32) : Prop :=
  (Tcw [2] LsR [] T0 U) ∧
  (∀ i, i ≠ 3 → i < 1616 + c0 ∨ (2716 ≤ i ∧ i < 2716 + c0) → U.a 2 i = T0.a 2 i) ∧
  (U.a 2 3 = I (c0 + cs.length)) ∧
  (∀ i, i < cs.length → U.a 2 (1616 + (c0 + i)) = I (cs.getD i (0, 0)).1 ∧ U.a 2 (2716 + (c0 + i)) = I (cs.getD i (0, 0)).2) ∧
  (U.s 220 = I pa) ∧
  (U.s 221 = sk)
theorem TwV.F {T0 U : TS} {c0 : Nat} {cs : Ex} {pa : Nat} {sk : Int32} (h9 : TwV T0 U c0 cs pa sk) : Tcw [2] LsR [] T0 U := h9.1
theorem TwV.a {T0 U : TS} {c0 : Nat} {cs : Ex} {pa : Nat} {sk : Int32} (h9 : TwV T0 U c0 cs pa sk) : ∀ i, i ≠ 3 → i < 1616 + c0 ∨ (2716 ≤ i ∧ i < 2716 + c0) → U.a 2 i = T0.a 2 i := h9.2.1
theorem TwV.m {T0 U : TS} {c0 : Nat} {cs : Ex} {pa : Nat} {sk : Int32} (h9 : TwV T0 U c0 cs pa sk) : U.a 2 3 = I (c0 + cs.length) := h9.2.2.1
theorem TwV.e {T0 U : TS} {c0 : Nat} {cs : Ex} {pa : Nat} {sk : Int32} (h9 : TwV T0 U c0 cs pa sk) : ∀ i, i < cs.length → U.a 2 (1616 + (c0 + i)) = I (cs.getD i (0, 0)).1 ∧ U.a 2 (2716 + (c0 + i)) = I (cs.getD i (0, 0)).2 := h9.2.2.2.1
theorem TwV.q {T0 U : TS} {c0 : Nat} {cs : Ex} {pa : Nat} {sk : Int32} (h9 : TwV T0 U c0 cs pa sk) : U.s 220 = I pa := h9.2.2.2.2.1
theorem TwV.k {T0 U : TS} {c0 : Nat} {cs : Ex} {pa : Nat} {sk : Int32} (h9 : TwV T0 U c0 cs pa sk) : U.s 221 = sk := h9.2.2.2.2.2
abbrev LsP : List Nat := [211, 212, 213, 214, 215, 216, 217, 219]
theorem TwV.go {U V : TS} (Z : TwV T0 U c0 cs pa sk) (F : Tcw [] LsP [] U V) : TwV T0 V c0 cs pa sk :=
  ⟨Z.F.trans (F.mono (by decide) (by decide) (by decide)), by rw [F.a 2 (by decide)]; exact Z.a, by rw [F.a 2 (by decide)]; exact Z.m, by rw [F.a 2 (by decide)]; exact Z.e, (F.s _ (by decide)).trans Z.q, (F.s _ (by decide)).trans Z.k⟩
theorem TwV.go' {U V : TS} (Z : TwV T0 U c0 cs pa sk) (F : Tcw [] [211, 212, 213, 214, 215] [] U V) : TwV T0 V c0 cs pa sk := Z.go (F.mono (by decide) (by decide) (by decide))

theorem pt_codes {c v : Nat} (Z : TwV T0 T c0 cs pa sk) (K : TwT T tp n t) (hb : c0 + cs.length < 1100) {Q : TS → Prop} (h : ∀ V, TwV T0 V c0 (cs ++ [(c, v)]) pa sk → TwT V tp n t → Q V) : wp_X1_codes (I c) (I v) T Q := by
  unfold wp_X1_codes
  rw [show ni 3 = 3 from rfl, Z.m]
  refine ⟨tix_I (k := 3) rfl (by decide) (by decide), ?_⟩
  (try simp (disch := omega) only [L_le, le_L, L_lt, lt_L, eq_L, L_eq, I_le, I_lt, I_eq, I_ni, add_L, L_add, I_add, mul_L, L_mul, I_mul, sub_L, L_sub, I_sub, div_L, rem_L])
  refine ⟨tix_I rfl (by show _ < 3816; omega) (by decide), ?_⟩
  intro U1 hU1
  have a1 : U1.a 2 = updN (T.a 2) (1616 + (c0 + cs.length)) (I c) := by rw [hU1, sa_at]
  have m1 : U1.a 2 3 = I (c0 + cs.length) := by rw [a1, updN_ne _ _ (by omega)]; exact Z.m
  rw [m1]
  (try simp (disch := omega) only [L_le, le_L, L_lt, lt_L, eq_L, L_eq, I_le, I_lt, I_eq, I_ni, add_L, L_add, I_add, mul_L, L_mul, I_mul, sub_L, L_sub, I_sub, div_L, rem_L])
  refine ⟨tix_I (k := 3) rfl (by decide) (by decide), tix_I rfl (by show _ < 3816; omega) (by decide), ?_⟩
  intro U2 hU2
  have a2 : U2.a 2 = updN (updN (T.a 2) (1616 + (c0 + cs.length)) (I c)) (2716 + (c0 + cs.length)) (I v) := by rw [hU2, sa_at, a1]
  have m2 : U2.a 2 3 = I (c0 + cs.length) := by rw [a2, updN_ne _ _ (by omega), updN_ne _ _ (by omega)]; exact Z.m
  rw [m2]
  (try simp (disch := omega) only [L_le, le_L, L_lt, lt_L, eq_L, L_eq, I_le, I_lt, I_eq, I_ni, add_L, L_add, I_add, mul_L, L_mul, I_mul, sub_L, L_sub, I_sub, div_L, rem_L])
  refine ⟨tix_I (k := 3) rfl (by decide) (by decide), tix_I (k := 3) rfl (by decide) (by decide), ?_⟩
  intro U3 hU3
  have F3 : Tcw [2] [] [] T U3 := by rw [hU3, hU2, hU1]; exact (((Tcw.refl T).sa (by decide) _ _).sa (by decide) _ _).sa (by decide) _ _
  have a3 : U3.a 2 = updN (updN (updN (T.a 2) (1616 + (c0 + cs.length)) (I c)) (2716 + (c0 + cs.length)) (I v)) 3 (I (c0 + cs.length + 1)) := by rw [hU3, sa_at, a2]
  refine h U3 ⟨Z.F.trans (F3.mono (by decide) (by decide) (by decide)), fun i i1 i2 => ?_, ?_, fun i hi => ?_, (F3.s _ (by decide)).trans Z.q, (F3.s _ (by decide)).trans Z.k⟩ (K.keep F3 (by rw [hU3, hU2, hU1]; rfl) (by decide) (by decide))
  · rw [a3, updN_ne _ _ i1, updN_ne _ _ (by omega), updN_ne _ _ (by omega)]; exact Z.a i i1 i2
  · rw [a3, updN_same, List.length_append]; rfl
  · rw [List.length_append] at hi
    have hi' : i < cs.length + 1 := hi
    rw [a3]
    by_cases ei : i = cs.length
    · subst ei
      rw [getD_app_eq]
      refine ⟨?_, ?_⟩
      · rw [updN_ne _ _ (by omega), updN_ne _ _ (by omega), updN_same]
      · rw [updN_ne _ _ (by omega), updN_same]
    · rw [getD_app_lt _ (by omega)]
      obtain ⟨z1, z2⟩ := Z.e i (by omega)
      refine ⟨?_, ?_⟩
      · rw [updN_ne _ _ (by omega), updN_ne _ _ (by omega), updN_ne _ _ (by omega)]; exact z1
      · rw [updN_ne _ _ (by omega), updN_ne _ _ (by omega), updN_ne _ _ (by omega)]; exact z2
theorem asks_snoc {c v : Nat} (hc : c ≠ 2) : Ex.asks (cs ++ [(c, v)]) = Ex.asks cs := by
  rw [Ex.asks_app]
  have : Ex.asks [(c, v)] = 0 := by
    show (if c = 2 then _ else _) = _
    rw [if_neg hc]; rfl
  rw [this, or_zero]
theorem asks_occ {v : Nat} : Ex.asks (cs ++ [(2, v)]) = Ex.asks cs ||| jshl 1 (I v) := by
  rw [Ex.asks_app]
  have : Ex.asks [(2, v)] = jshl 1 (I v) := by
    show (if 2 = 2 then jshl 1 (I v) ||| Ex.asks [] else Ex.asks []) = _
    rw [if_pos rfl]
    exact or_zero _
  rw [this]

theorem pt_joint (K : TwT T tp n t) {Q : Int32 → TS → Prop} (h : Q (oI (jnt tp t)) T) : wp_X1_joint T Q := by
  unfold wp_X1_joint
  unfold jnt at h
  refine pt_isWord (k := 6) K (by decide) ?_
  by_cases h6 : isW tp t 6 = true
  · rw [if_pos h6] at h ⊢
    exact brF (by decide) h
  rw [if_neg h6] at h ⊢
  refine brT rfl ?_
  refine pt_isWord (k := 7) K (by decide) ?_
  by_cases h7 : isW tp t 7 = true
  · rw [if_pos h7] at h ⊢
    exact brF (by decide) h
  rw [if_neg h7] at h ⊢
  refine brT rfl ?_
  have go : ∀ c, isSg t c = true → (isSg t 43 || isSg t 45 || isSg t 42 || isSg t 124 || isSg t 38 || isSg t 60) = true → Q (T.s 215) T := fun c hc hh => by
    rw [if_pos hh] at h
    rw [K.sg (isSg_iff.1 hc).1]
    exact h
  refine pt_isSign K (c := 43) (by decide) ?_
  by_cases s1 : isSg t 43 = true
  · rw [if_pos s1]; exact brF (by decide) (go 43 s1 (by simp [s1]))
  rw [if_neg s1]
  refine brT rfl ?_
  refine pt_isSign K (c := 45) (by decide) ?_
  by_cases s2 : isSg t 45 = true
  · rw [if_pos s2]; exact brF (by decide) (go 45 s2 (by simp [s2]))
  rw [if_neg s2]
  refine brT rfl ?_
  refine pt_isSign K (c := 42) (by decide) ?_
  by_cases s3 : isSg t 42 = true
  · rw [if_pos s3]; exact brF (by decide) (go 42 s3 (by simp [s3]))
  rw [if_neg s3]
  refine brT rfl ?_
  refine pt_isSign K (c := 124) (by decide) ?_
  by_cases s4 : isSg t 124 = true
  · rw [if_pos s4]; exact brF (by decide) (go 124 s4 (by simp [s4]))
  rw [if_neg s4]
  refine brT rfl ?_
  refine pt_isSign K (c := 38) (by decide) ?_
  by_cases s5 : isSg t 38 = true
  · rw [if_pos s5]; exact brF (by decide) (go 38 s5 (by simp [s5]))
  rw [if_neg s5]
  refine brT rfl ?_
  refine pt_isSign K (c := 60) (by decide) ?_
  intro m hm
  by_cases s6 : isSg t 60 = true
  · rw [if_pos s6, if_neg (by decide)] at hm
    rw [hm]; exact go 60 s6 (by simp [s6])
  · rw [if_neg s6, if_pos rfl] at hm
    rw [hm]
    rw [if_neg (by simp [s1, s2, s3, s4, s5, s6])] at h
    exact h

theorem TG.eq2 {a b : Nat → Int32} {G : Gv} (K : TG a G) (W : G.WF) (h : ∀ i, i ≠ 3 → i < 1616 → b i = a i) : TG b G := by
  have hP := W.nP
  have hS := W.nS
  refine ⟨?_, ?_, fun s hs => ?_, fun s hs => ?_, fun p hp => ?_, fun p hp => ?_, fun p k hp hk => ?_, fun p o hp ho => ?_⟩
  · rw [h 0 (by omega) (by omega)]; exact K.nS
  · rw [h 1 (by omega) (by omega)]; exact K.nP
  · rw [h (4 + s) (by omega) (by omega)]; exact K.ins s hs
  · rw [h (12 + s) (by omega) (by omega)]; exact K.outs s hs
  · rw [h (20 + p) (by omega) (by omega)]; exact K.left p hp
  · rw [h (32 + p) (by omega) (by omega)]; exact K.kn p hp
  · have := W.kn p hp
    rw [h (44 + 3 * p + k) (by omega) (by omega)]; exact K.kid p k hp hk
  · rw [h (848 + 32 * p + o) (by omega) (by omega)]; exact K.ask p o hp ho

/-- what of a grammar a rule's reading asks. -/
def TwH (T : TS) (A : PG) : Prop :=
  (TG (T.a 2) A.g) ∧
  (∀ s a, s < A.g.nS → a < A.g.cnt s → TwN T 4 (20 + 8 * s + a) (A.an s a))
theorem TwH.g {T : TS} {A : PG} (h9 : TwH T A) : TG (T.a 2) A.g := h9.1
theorem TwH.an {T : TS} {A : PG} (h9 : TwH T A) : ∀ s a, s < A.g.nS → a < A.g.cnt s → TwN T 4 (20 + 8 * s + a) (A.an s a) := h9.2
theorem TwH.go {U : TS} {S : List Nat} (Z : TwH T A) (F : Tcw [] S [] T U) : TwH U A := ⟨by rw [F.a 2 (by decide)]; exact Z.g, fun s a hs ha => by unfold TwN; rw [F.l 4 (by decide)]; exact Z.an s a hs ha⟩
theorem TwV.h {U : TS} (Z : TwV T0 U c0 cs pa sk) (H : TwH T0 A) (W : A.g.WF) : TwH U A := ⟨H.g.eq2 W (fun i i1 i2 => Z.a i i1 (by omega)), fun s a hs ha => by unfold TwN; rw [Z.F.l 4 (by decide)]; exact H.an s a hs ha⟩

theorem pt_readOccName (W : A.g.WF) (hp : p < A.g.nP) {a : Nat} (ha : a ≤ A.g.kn p) (H : TwH T A) (K : TwT T tp n t) {Q : Int32 → TS → Prop} (h1 : ∀ U o t', pOc tp n A p a t = .ok (o, t') → Tcw [] LsP [] T U → TwT U tp n t' → U.s 219 = I o → Q 1 U) (h2 : ∀ U f, pOc tp n A p a t = .error f → Tcw [] LsP [] T U → TwF U f → Q 0 U) : wp_X1_readOccName (I p) (I a) T Q := by
  have hS := W.nS
  have hs := W.sy p a hp ha
  have hc := W.cnt8 hs
  have hK3 := W.kn p hp
  generalize hR : pOc tp n A p a t = R at h1 h2
  unfold pOc at hR
  unfold wp_X1_readOccName
  refine pt_eats K (c := 46) (by decide) ?_ ?_
  rotate_left
  · intro U f F e f'
    by_cases hsg : isSg t 46 = true
    · unfold pEat at e; rw [if_pos hsg] at e; exact absurd e (by simp)
    rw [if_neg hsg] at hR
    unfold pEat at e
    rw [if_neg hsg] at e
    rw [Except.error.inj e] at hR
    exact brT rfl (h2 U f hR.symm (F.mono (by decide) (by decide) (by decide)) f')
  intro U1 t1 F1 e K1
  by_cases hsg : isSg t 46 = true
  rotate_left
  · unfold pEat at e; rw [if_neg hsg] at e; exact absurd e (by simp)
  unfold pEat at e
  rw [if_pos hsg] at e
  have e1 := Except.ok.inj e
  rw [if_pos hsg, e1] at hR
  clear e e1
  have F1' : Tcw [] LsP [] T U1 := F1.mono (by decide) (by decide) (by decide)
  have H1 := H.go F1
  refine brF (by decide) ?_
  refine pt_isName K1 ?_
  by_cases hn : isNm tp t1 = true
  rotate_left
  · rw [if_neg hn] at hR ⊢
    refine brT rfl ?_
    refine pt_bad (k := 2) K1 (by decide) ?_
    intro U F f
    exact ⟨.inl rfl, h2 U _ hR.symm (F1'.trans (F.mono (by decide) (by decide) (by decide))) f⟩
  rw [if_pos hn] at hR ⊢
  have hk2 := (isNm_iff.1 hn).1
  refine brF (by decide) ?_
  refine pt_symbolAt (.inr rfl) W H1.g rfl hp ha ?_
  refine pt_attributesIn (.inr rfl) W H1.g rfl hs ?_
  rw [K1.wd hk2]
  have ei : (20 : Int32) + 8 * I (A.g.sy p a) = I (20 + 8 * A.g.sy p a) := by (try simp (disch := omega) only [L_le, le_L, L_lt, lt_L, eq_L, L_eq, I_le, I_lt, I_eq, I_ni, add_L, L_add, I_add, mul_L, L_mul, I_mul, sub_L, L_sub, I_sub, div_L, rem_L])
  rw [ei]
  refine pt_findIn (f := A.an (A.g.sy p a)) ⟨.inr rfl, by omega⟩ (fun k hk => H1.an _ k hs hk) (K1.wl hk2) ?_
  cases hf : fdN (A.an (A.g.sy p a)) (A.g.cnt (A.g.sy p a)) (wrd tp t1) with
  | none =>
    rw [hf] at hR
    refine brT rfl ?_
    refine pt_bad (k := 3) K1 (by decide) ?_
    intro U F f
    exact ⟨.inl rfl, h2 U _ hR.symm (F1'.trans (F.mono (by decide) (by decide) (by decide))) f⟩
  | some x =>
    rw [hf] at hR
    have hx := (fstN_some.1 hf).1
    refine brF (I_neg1_ne (by omega)) ?_
    rw [show oI (some x) = I x from rfl]
    (try simp (disch := omega) only [L_le, le_L, L_lt, lt_L, eq_L, L_eq, I_le, I_lt, I_eq, I_ni, add_L, L_add, I_add, mul_L, L_mul, I_mul, sub_L, L_sub, I_sub, div_L, rem_L])
    intro U2 hU2
    have F2 : Tcw [] [219] [] U1 U2 := by rw [hU2]; exact (Tcw.refl U1).ss (by decide) _
    refine h1 U2 _ _ hR.symm (F1'.trans (F2.mono (by decide) (by decide) (by decide))) (K1.keep F2 (by rw [hU2]; rfl) (by decide) (by decide)) ?_
    rw [hU2, ss_s, if_pos rfl]

theorem pt_readNumber (W : A.g.WF) (hp : p < A.g.nP) (H : TwH T0 A) (Z : TwV T0 T c0 cs pa (Ex.asks cs)) (K : TwT T tp n t) (hk : t.kd = 3) (hb : c0 + cs.length ≤ t.fr) (hpa : pa ≤ 24) {Q : Int32 → TS → Prop} (h1 : ∀ U e q t', pNum tp n A p pa t = .ok (e, q, t') → TwV T0 U c0 (cs ++ e) q (Ex.asks (cs ++ e)) → TwT U tp n t' → Q 1 U) (h2 : ∀ U f, pNum tp n A p pa t = .error f → Tcw [2] LsR [] T0 U → TwF U f → Q 0 U) : wp_X1_readNumber (I p) T Q := by
  have hP := W.nP
  have hK3 := W.kn p hp
  have hn1 := K.p.m
  have hl := K.l1
  have hl2 := K.l2
  have hnu := isT.nu (tp := tp) (n := n) K.k hk
  have hfr : t.fr < n := by
    obtain ⟨fr, e⟩ := K.k
    rw [e] at hk ⊢
    rw [tokA_fr]
    exact Nat.lt_of_not_le (fun hh => by have := (tokA_kd0 (tp := tp) fr).2 hh; omega)
  generalize hR : pNum tp n A p pa t = R at h1 h2
  unfold pNum at hR
  unfold wp_X1_readNumber
  rw [K.nu hk, K.fr]
  refine pt_nxt K ?_
  intro U1 F1 K1
  have Z1 := Z.go' F1
  refine pt_isSign K1 (c := 46) (by decide) ?_
  by_cases hsg : isSg (nxt tp n t) 46 = true
  rotate_left
  · rw [if_neg hsg] at hR ⊢
    refine brT rfl ?_
    rw [Z1.q]
    by_cases h24 : pa = 24
    · rw [if_pos h24] at hR
      refine brT (by rw [h24]; rfl) ?_
      refine pt_badAt (k := 6) ?_
      intro U F f
      exact ⟨.inl rfl, h2 U _ hR.symm (Z1.F.trans (F.mono (by decide) (by decide) (by decide))) f⟩
    rw [if_neg h24] at hR
    refine brF (fun hh => h24 ((eq_L 24 (by decide) (by omega)).1 hh)) ?_
    (try simp (disch := omega) only [L_le, le_L, L_lt, lt_L, eq_L, L_eq, I_le, I_lt, I_eq, I_ni, add_L, L_add, I_add, mul_L, L_mul, I_mul, sub_L, L_sub, I_sub, div_L, rem_L])
    intro U2 hU2
    have F2 : Tcw [] [220] [] U1 U2 := by rw [hU2]; exact (Tcw.refl U1).ss (by decide) _
    have Z2 : TwV T0 U2 c0 cs (pa + 1) (Ex.asks cs) := ⟨Z1.F.trans (F2.mono (by decide) (by decide) (by decide)), by rw [F2.a 2 (by decide)]; exact Z1.a, by rw [F2.a 2 (by decide)]; exact Z1.m, by rw [F2.a 2 (by decide)]; exact Z1.e, by rw [hU2, ss_s, if_pos rfl], (F2.s _ (by decide)).trans Z1.k⟩
    have K2 : TwT U2 tp n (nxt tp n t) := K1.keep F2 (by rw [hU2]; rfl) (by decide) (by decide)
    refine pt_codes (c := 0) (v := t.nu) Z2 K2 (by omega) ?_
    intro V ZV KV
    refine h1 V _ _ _ hR.symm ?_ KV
    rw [asks_snoc (by decide)]; exact ZV
  rw [if_pos hsg] at hR ⊢
  have H1 := Z1.h H W
  refine brF (by decide) ?_
  refine pt_isPosition W (.inr rfl) H1.g rfl hp (by omega) ?_
  by_cases hpos : t.nu ≤ A.g.kn p
  rotate_left
  · rw [if_pos (by omega)] at hR
    rw [if_neg hpos]
    refine brT rfl ?_
    refine pt_badAt (k := 3) ?_
    intro U F f
    exact ⟨.inl rfl, h2 U _ hR.symm (Z1.F.trans (F.mono (by decide) (by decide) (by decide))) f⟩
  rw [if_neg (by omega)] at hR
  rw [if_pos hpos]
  refine brF (by decide) ?_
  rw [Z1.q]
  by_cases h24 : pa = 24
  · rw [if_pos h24] at hR
    refine brT (by rw [h24]; rfl) ?_
    refine pt_badAt (k := 6) ?_
    intro U F f
    exact ⟨.inl rfl, h2 U _ hR.symm (Z1.F.trans (F.mono (by decide) (by decide) (by decide))) f⟩
  rw [if_neg h24] at hR
  refine brF (fun hh => h24 ((eq_L 24 (by decide) (by omega)).1 hh)) ?_
  refine pt_readOccName W hp hpos H1 K1 ?_ ?_
  rotate_left
  · intro U f e F f'
    rw [e] at hR
    exact brT rfl (h2 U f hR.symm (Z1.F.trans (F.mono (by decide) (by decide) (by decide))) f')
  intro U2 o t2 e F2 K2 s219
  rw [e] at hR
  have Z2 := Z1.go F2
  refine brF (by decide) ?_
  rw [Z2.q]
  (try simp (disch := omega) only [L_le, le_L, L_lt, lt_L, eq_L, L_eq, I_le, I_lt, I_eq, I_ni, add_L, L_add, I_add, mul_L, L_mul, I_mul, sub_L, L_sub, I_sub, div_L, rem_L])
  intro U3 hU3
  have s3 : U3.s 221 = Ex.asks cs := by rw [hU3, ss_s, if_neg (by decide)]; exact Z2.k
  have s4 : U3.s 219 = I o := by rw [hU3, ss_s, if_neg (by decide)]; exact s219
  rw [s3, s4, ← asks_occ]
  intro U4 hU4
  have F4 : Tcw [] [220, 221] [] U2 U4 := by rw [hU4, hU3]; exact ((Tcw.refl U2).ss (by decide) _).ss (by decide) _
  have Z4 : TwV T0 U4 c0 cs (pa + 1) (Ex.asks (cs ++ [(2, o)])) := ⟨Z2.F.trans (F4.mono (by decide) (by decide) (by decide)), by rw [F4.a 2 (by decide)]; exact Z2.a, by rw [F4.a 2 (by decide)]; exact Z2.m, by rw [F4.a 2 (by decide)]; exact Z2.e, by rw [hU4, ss_s, if_neg (by decide), hU3, ss_s, if_pos rfl], by rw [hU4, ss_s, if_pos rfl]⟩
  have K4 : TwT U4 tp n t2 := K2.keep F4 (by rw [hU4, hU3]; rfl) (by decide) (by decide)
  rw [(F4.s 219 (by decide)).trans s219]
  refine pt_codes (c := 2) (v := o) Z4 K4 (by omega) ?_
  intro V ZV KV
  refine pt_nxt KV ?_
  intro V2 FV KV2
  exact h1 V2 _ _ _ hR.symm (ZV.go' FV) KV2

theorem pt_opens {d : Nat} (hd : d ≤ 6) (K : TwT T tp n t) {Q : Int32 → TS → Prop} (h1 : ∀ U t', pOpn tp n d t = .ok t' → Tcw [] [211, 212, 213, 214, 215] [] T U → TwT U tp n t' → Q 1 U) (h2 : ∀ U f, pOpn tp n d t = .error f → Tcw [] [216, 217] [] T U → TwF U f → Q 0 U) : wp_X1_opens (I d) T Q := by
  unfold wp_X1_opens
  refine pt_isSign K (c := 40) (by decide) ?_
  by_cases hsg : isSg t 40 = true
  · rw [if_pos hsg]
    refine brF (by decide) ?_
    by_cases h6 : d = 6
    · refine brT (by rw [h6]; rfl) ?_
      refine pt_bad (k := 6) K (by decide) ?_
      intro U F f
      exact ⟨.inl rfl, h2 U _ (by unfold pOpn; rw [if_pos hsg, if_pos h6]) F f⟩
    · refine brF (fun hh => h6 ((eq_L 6 (by decide) (by omega)).1 hh)) ?_
      refine pt_nxt K ?_
      intro U F KU
      exact h1 U _ (by unfold pOpn; rw [if_pos hsg, if_neg h6]) F KU
  · rw [if_neg hsg]
    refine brT rfl ?_
    refine pt_bad (k := 2) K (by decide) ?_
    intro U F f
    exact ⟨.inl rfl, h2 U _ (by unfold pOpn; rw [if_neg hsg]) F f⟩

/-- what a reading of a sum does. -/
def RsW (tp : Nat → Nat) (n : Nat) (T0 : TS) (c0 p d : Nat) (A : PG) (rs : Int32 → Int32 → TS → (Int32 → TS → Prop) → Prop) (ps : Nat → Nat → Tk → ER) : Prop :=
  ∀ (T : TS) (cs : Ex) (pa : Nat) (t : Tk) (Q : Int32 → TS → Prop), TwV T0 T c0 cs pa (Ex.asks cs) → TwT T tp n t → c0 + cs.length ≤ t.fr → pa ≤ 24 →
    (∀ U e q t', ps d pa t = .ok (e, q, t') → TwV T0 U c0 (cs ++ e) q (Ex.asks (cs ++ e)) → TwT U tp n t' → Q 1 U) → (∀ U f, ps d pa t = .error f → Tcw [2] LsR [] T0 U → TwF U f → Q 0 U) → rs (I p) (I d) T Q

theorem pt_readPart (W : A.g.WF) (hp : p < A.g.nP) (H : TwH T0 A) {rs : Int32 → Int32 → TS → (Int32 → TS → Prop) → Prop} {ps : Nat → Nat → Tk → ER} {d : Nat} (hd : d ≤ 6) (hrs : d ≠ 6 → RsW tp n T0 c0 p (d + 1) A rs ps) (hok : ∀ pa t, isT tp n t → pa ≤ 24 → okE tp n A p pa t (ps (d + 1) pa t))
    (Z : TwV T0 T c0 cs pa (Ex.asks cs)) (K : TwT T tp n t) (hb : c0 + cs.length ≤ t.fr) (hpa : pa ≤ 24) {Q : Int32 → TS → Prop} (h1 : ∀ U e q t', pPt tp n A p ps d pa t = .ok (e, q, t') → TwV T0 U c0 (cs ++ e) q (Ex.asks (cs ++ e)) → TwT U tp n t' → Q 1 U) (h2 : ∀ U f, pPt tp n A p ps d pa t = .error f → Tcw [2] LsR [] T0 U → TwF U f → Q 0 U) : wp_X1_readPart rs (I p) (I d) T Q := by
  have h5 := K.k5
  have hn1 := K.p.m
  have hl := K.l1
  have hl2 := K.l2
  generalize hR : pPt tp n A p ps d pa t = R at h1 h2
  unfold pPt at hR
  unfold wp_X1_readPart
  rw [K.kd]
  by_cases h3 : t.kd = 3
  · rw [if_pos h3] at hR
    refine brT (by rw [h3]; rfl) ?_
    refine pt_readNumber W hp H Z K h3 hb hpa ?_ ?_
    · intro U e q t' e' ZU KU
      exact ⟨.inr rfl, h1 U e q t' (hR.symm.trans e') ZU KU⟩
    · intro U f e' F f'
      exact ⟨.inl rfl, h2 U f (hR.symm.trans e') F f'⟩
  rw [if_neg h3] at hR
  refine brF (fun hh => h3 ((eq_L 3 (by decide) (by omega)).1 hh)) ?_
  refine pt_isWord (k := 5) K (by decide) ?_
  by_cases h5' : isW tp t 5 = true
  · rw [if_pos h5'] at hR ⊢
    refine brF (by decide) ?_
    rw [Z.q]
    by_cases h24 : pa = 24
    · rw [if_pos h24] at hR
      refine brT (by rw [h24]; rfl) ?_
      refine pt_bad (k := 6) K (by decide) ?_
      intro U F f
      exact ⟨.inl rfl, h2 U _ hR.symm (Z.F.trans (F.mono (by decide) (by decide) (by decide))) f⟩
    rw [if_neg h24] at hR
    refine brF (fun hh => h24 ((eq_L 24 (by decide) (by omega)).1 hh)) ?_
    (try simp (disch := omega) only [L_le, le_L, L_lt, lt_L, eq_L, L_eq, I_le, I_lt, I_eq, I_ni, add_L, L_add, I_add, mul_L, L_mul, I_mul, sub_L, L_sub, I_sub, div_L, rem_L])
    intro U2 hU2
    have F2 : Tcw [] [220] [] T U2 := by rw [hU2]; exact (Tcw.refl T).ss (by decide) _
    have Z2 : TwV T0 U2 c0 cs (pa + 1) (Ex.asks cs) := ⟨Z.F.trans (F2.mono (by decide) (by decide) (by decide)), by rw [F2.a 2 (by decide)]; exact Z.a, by rw [F2.a 2 (by decide)]; exact Z.m, by rw [F2.a 2 (by decide)]; exact Z.e, by rw [hU2, ss_s, if_pos rfl], (F2.s _ (by decide)).trans Z.k⟩
    have K2 : TwT U2 tp n t := K.keep F2 (by rw [hU2]; rfl) (by decide) (by decide)
    refine pt_codes (c := 1) (v := 0) Z2 K2 (by omega) ?_
    intro V ZV KV
    refine pt_nxt KV ?_
    intro V2 FV KV2
    refine h1 V2 _ _ _ hR.symm ?_ KV2
    rw [asks_snoc (by decide)]; exact ZV.go' FV
  rw [if_neg h5'] at hR ⊢
  refine brT rfl ?_
  refine pt_isWord (k := 8) K (by decide) ?_
  -- a sum and a sign
  have se : ∀ (U : TS) (cs' : Ex) (q : Nat) (t1 : Tk) (c : Nat) (P : Int32 → TS → Prop), d ≠ 6 → c < 256 → TwV T0 U c0 cs' q (Ex.asks cs') → TwT U tp n t1 → c0 + cs'.length ≤ t1.fr → q ≤ 24 →
      (∀ V e q' t', pSE tp n ps (d + 1) q c t1 = .ok (e, q', t') → TwV T0 V c0 (cs' ++ e) q' (Ex.asks (cs' ++ e)) → TwT V tp n t' → c0 + (cs' ++ e).length + 1 ≤ t'.fr → q' ≤ 24 → P 1 V) →
      (∀ V f, pSE tp n ps (d + 1) q c t1 = .error f → Tcw [2] LsR [] T0 V → TwF V f → P 0 V ∧ Q 0 V) →
      rs (I p) (I d + 1) U (fun r25 T24 => ((r25 = 0 → Q 0 T24) ∧ (¬ r25 = 0 → wp_X1_eats (I c) T24 P))) := by
    intro U cs' q t1 c P hd6 hc ZU KU hb1 hq g1 g2
    rw [show I d + 1 = I (d + 1) by (try simp (disch := omega) only [L_le, le_L, L_lt, lt_L, eq_L, L_eq, I_le, I_lt, I_eq, I_ni, add_L, L_add, I_add, mul_L, L_mul, I_mul, sub_L, L_sub, I_sub, div_L, rem_L])]
    refine hrs hd6 U cs' q t1 _ ZU KU hb1 hq ?_ ?_
    · intro V e q' t' er ZV KV
      obtain ⟨a1, a2, a3, a4⟩ := hok q t1 KU.k hq e q' t' er
      refine brF (by decide) ?_
      refine pt_eats KV hc ?_ ?_
      · intro V2 t2 F2 e2 K2
        obtain ⟨b1, b2, b3, b4⟩ := pEat_ok a3 e2
        refine g1 V2 e q' t2 (by unfold pSE; rw [er]; dsimp only; rw [e2]) (ZV.go' F2) K2 ?_ a1.m
        rw [List.length_append]; omega
      · intro V2 f F2 e2 f2
        exact (g2 V2 f (by unfold pSE; rw [er]; dsimp only; rw [e2]) (ZV.F.trans (F2.mono (by decide) (by decide) (by decide))) f2).1
    · intro V f er FV fV
      exact brT rfl (g2 V f (by unfold pSE; rw [er]) FV fV).2
  by_cases h8 : isW tp t 8 = true
  · rw [if_pos h8] at hR ⊢
    refine brF (by decide) ?_
    have hu := isT.up (tp := tp) (n := n) K.k (w_ne h8)
    refine pt_nxt K ?_
    intro U1 F1 K1
    have Z1 := Z.go' F1
    unfold pIf at hR
    refine pt_opens hd K1 ?_ ?_
    rotate_left
    · intro U2 f e2 F2 f2
      rw [e2] at hR
      exact brT rfl (h2 U2 f hR.symm (Z1.F.trans (F2.mono (by decide) (by decide) (by decide))) f2)
    intro U2 t2 e2 F2 K2
    rw [e2] at hR
    dsimp only at hR
    obtain ⟨_, hd6, _, o1, o2⟩ := pOpn_ok K1.k e2
    have Z2 := Z1.go' F2
    refine brF (by decide) ?_
    refine se U2 cs pa t2 44 _ hd6 (by decide) Z2 K2 (by omega) hpa ?_ ?_
    rotate_left
    · intro V f er FV fV
      rw [er] at hR
      exact ⟨brT rfl (h2 V f hR.symm FV fV), h2 V f hR.symm FV fV⟩
    intro V3 e3 q3 t3 er3 Z3 K3 b3 hq3
    rw [er3] at hR
    dsimp only at hR
    refine brF (by decide) ?_
    refine se V3 (cs ++ e3) q3 t3 44 _ hd6 (by decide) Z3 K3 (by omega) hq3 ?_ ?_
    rotate_left
    · intro V f er FV fV
      rw [er] at hR
      exact ⟨brT rfl (h2 V f hR.symm FV fV), h2 V f hR.symm FV fV⟩
    intro V4 e4 q4 t4 er4 Z4 K4 b4 hq4
    rw [er4] at hR
    dsimp only at hR
    refine brF (by decide) ?_
    refine se V4 (cs ++ e3 ++ e4) q4 t4 41 _ hd6 (by decide) Z4 K4 (by omega) hq4 ?_ ?_
    rotate_left
    · intro V f er FV fV
      rw [er] at hR
      refine ⟨?_, h2 V f hR.symm FV fV⟩
      intro m hm
      rw [if_pos rfl] at hm
      rw [hm]
      exact brT rfl ⟨.inl rfl, h2 V f hR.symm FV fV⟩
    intro V5 e5 q5 t5 er5 Z5 K5 b5 hq5
    rw [er5] at hR
    dsimp only at hR
    intro m hm
    rw [if_neg (by decide)] at hm
    rw [hm]
    refine brF (by decide) ?_
    have hl5 := K5.l1
    have hl6 := K5.l2
    refine pt_codes (c := 3) (v := 0) Z5 K5 (by omega) ?_
    intro V6 Z6 K6
    refine ⟨.inr rfl, h1 V6 _ _ _ hR.symm ?_ K6⟩
    have ea : cs ++ (e3 ++ e4 ++ e5 ++ [(3, 0)]) = cs ++ e3 ++ e4 ++ e5 ++ [(3, 0)] := by simp only [List.append_assoc]
    rw [ea, asks_snoc (by decide)]
    exact Z6
  · rw [if_neg h8] at hR ⊢
    refine brT rfl ?_
    refine pt_opens hd K ?_ ?_
    rotate_left
    · intro U2 f e2 F2 f2
      rw [e2] at hR
      exact brT rfl (h2 U2 f hR.symm (Z.F.trans (F2.mono (by decide) (by decide) (by decide))) f2)
    intro U2 t2 e2 F2 K2
    rw [e2] at hR
    dsimp only at hR
    obtain ⟨_, hd6, _, o1, o2⟩ := pOpn_ok K.k e2
    have Z2 := Z.go' F2
    refine brF (by decide) ?_
    refine se U2 cs pa t2 41 _ hd6 (by decide) Z2 K2 (by omega) hpa ?_ ?_
    rotate_left
    · intro V f er FV fV
      have hR' := hR.symm.trans er
      refine ⟨?_, h2 V f hR' FV fV⟩
      intro m hm
      rw [if_pos rfl] at hm
      rw [hm]
      exact ⟨.inl rfl, h2 V f hR' FV fV⟩
    intro V3 e3 q3 t3 er3 Z3 K3 b3 hq3
    intro m hm
    rw [if_neg (by decide)] at hm
    rw [hm]
    exact ⟨.inr rfl, h1 V3 _ _ _ (hR.symm.trans er3) Z3 K3⟩

theorem pt_readSum (W : A.g.WF) (hp : p < A.g.nP) (H : TwH T0 A) : ∀ (f d : Nat), d ≤ 6 → 7 ≤ d + f → RsW tp n T0 c0 p d A (wp_X1_readSum f) (pSm tp n A p f)
  | 0, d, h1, h2 => absurd h2 (by omega)
  | f + 1, d, hd, hf => by
    intro T cs pa t Q Z K hb hpa h1 h2
    have hok := fun pa t ht hpa => pSm_ok (tp := tp) (n := n) W hp f (d + 1) pa t ht hpa
    have hrs : d ≠ 6 → RsW tp n T0 c0 p (d + 1) A (wp_X1_readSum f) (pSm tp n A p f) := fun hd6 => pt_readSum W hp H f (d + 1) (by omega) (by omega)
    generalize hR : pSm tp n A p (f + 1) d pa t = R at h1 h2
    unfold pSm at hR
    unfold wp_X1_readSum
    refine pt_readPart W hp H hd hrs hok Z K hb hpa ?_ ?_
    rotate_left
    · intro U g e F f'
      rw [e] at hR
      exact brT rfl (h2 U g hR.symm F f')
    intro U1 e1 q1 t1 er Z1 K1
    rw [er] at hR
    dsimp only at hR
    obtain ⟨a1, a2, a3, a4⟩ := pPt_ok W hp K.k hpa hok e1 q1 t1 er
    refine brF (by decide) ?_
    refine pt_joint K1 ?_
    refine tlp_cnt 25 (fun k s U => ∃ e q t', s = oI (jnt tp t') ∧ TwV T0 U c0 (cs ++ e) q (Ex.asks (cs ++ e)) ∧ TwT U tp n t' ∧ exK A p e pa q ∧ t.fr + e.length ≤ t'.fr ∧ k + 1 ≤ q ∧ pJn tp n (fun pa t => pPt tp n A p (pSm tp n A p f) d pa t) (26 - k) e q t' = R) ⟨e1, q1, t1, rfl, Z1, K1, a1, a2, by omega, hR⟩ ?_
    clear hR Z1 K1 a1 a2 a3 a4 er
    intro k s U KK hk hh hKK
    obtain ⟨e, q, t', hs, ZU, KU, E, hlen, hkq, hR⟩ := hh
    rw [hs]
    clear hs s
    have hq24 := E.m
    rw [show 26 - k = (25 - k) + 1 by omega] at hR
    unfold pJn at hR
    cases hj : jnt tp t' with
    | none =>
      rw [hj] at hR
      exact brT rfl (h1 U e q t' hR.symm ZU KU)
    | some c =>
      rw [hj] at hR
      dsimp only at hR
      obtain ⟨j1, j2, j3⟩ := jnt_ok hj
      have hu := isT.up (tp := tp) (n := n) KU.k j1
      refine brF (I_neg1_ne (by omega)) ?_
      refine pt_nxt KU ?_
      intro U2 F2 K2
      have Z2 := ZU.go' F2
      refine pt_readPart W hp H hd hrs hok Z2 K2 (by rw [List.length_append]; omega) hq24 ?_ ?_
      rotate_left
      · intro V g er FV f'
        rw [er] at hR
        exact brT rfl (h2 V g hR.symm FV f')
      intro V e2 q2 t2 er ZV KV
      rw [er] at hR
      dsimp only at hR
      obtain ⟨a1, a2, a3, a4⟩ := pPt_ok W hp K2.k hq24 hok e2 q2 t2 er
      have hl5 := KV.l1
      have hl6 := KV.l2
      have hn1 := KV.p.m
      refine brF (by decide) ?_
      rw [show oI (some c) = I c from rfl]
      refine pt_codes (c := c) (v := 0) ZV KV (by simp only [List.length_append]; omega) ?_
      intro V2 Z3 K3
      refine pt_joint K3 ?_
      refine hKK _ _ (by have := a1.m; omega) ⟨e ++ e2 ++ [(c, 0)], q2, t2, rfl, ?_, K3, E.two a1 j2 j3, by simp only [List.length_append, List.length_singleton]; omega, by omega, by rw [show 26 - (k + 1) = 25 - k by omega]; exact hR⟩
      have ea : cs ++ (e ++ e2 ++ [(c, 0)]) = cs ++ e ++ e2 ++ [(c, 0)] := by simp only [List.append_assoc]
      rw [ea, asks_snoc (by omega)]
      exact Z3
end
