/-! plain: jl -/
set_option maxRecDepth 100000
section
variable {h : AH}

/-- what adding one more to a full list of n makes. -/
def grw (n : Nat) : Nat := n + (if 1 < n / 2 then n / 2 else 1)

theorem bt_shr_hi (a : Int32) {s : Nat} (h : s < 32) {k : Nat} (hk : ¬ s + k < 32) (h32 : k < 32) : bt (jshr a (I s)) k = bt a 31 := by
  rw [jshr, and31 h, bt, Int32.toBitVec_shiftRight]
  show (a.toBitVec.sshiftRight ((I s).toBitVec.smod 32).toNat).getLsbD k = _
  rw [smod32 h, BitVec.getLsbD_sshiftRight, if_neg hk, BitVec.msb_eq_getLsbD_last]
  have : ¬ 32 ≤ k := by omega
  simp [this, bt]

theorem half_I {n : Nat} (hn : n ≤ 1000) : jshr (I n) 1 = I (n / 2) := by
  show jshr (I n) (I 1) = _
  apply bt_ext
  intro k h32
  by_cases hk : 1 + k < 32
  · rw [bt_shr _ (by omega) hk, bt_nat _ _ (by omega), bt_nat _ _ (by omega)]
    rw [show n / 2 = n >>> 1 from rfl, Nat.testBit_shiftRight]
  · have f1 : ∀ m, m ≤ 1000 → bt (I m) 31 = false := by
      intro m hm
      rw [bt_nat _ _ (by omega)]
      exact Nat.testBit_lt_two_pow (by omega)
    rw [bt_shr_hi _ (by omega) hk h32, f1 n hn]
    have ek : k = 31 := by omega
    rw [ek, f1 _ (by omega)]

theorem pc_newLength {n : Nat} (hn : n ≤ 1000) (h1 : 1 ≤ n) {Q : Int32 → AH → Prop} (hQ : Q (I (grw n)) h) : wp_J4_newLength (nI n) (I n + 1 - nI n) (jshr (nI n) 1) h Q := by
  have e1 : jshr (nI n) 1 = I (n / 2) := half_I hn
  have e2 : I n + 1 - nI n = 1 := by
    show I n + 1 - I n = 1
    rw [show I n + 1 = I (n + 1) from add_L 1 n, I_sub (by omega), show n + 1 - n = 1 by omega]; rfl
  unfold wp_J4_newLength
  rw [e1, e2]
  have e3 : nI n + (if (1 : Int32) < I (n / 2) then I (n / 2) else 1) = I (grw n) := by
    show I n + _ = _
    unfold grw
    by_cases hc : 1 < n / 2
    · rw [if_pos ((L_lt 1 (by decide) (by omega)).2 hc), if_pos hc, I_add]
    · rw [if_neg (fun hh => hc ((L_lt 1 (by decide) (by omega)).1 hh)), if_neg hc]; exact add_L 1 n
  rw [e3]
  have hg : grw n ≤ 1501 ∧ 1 ≤ grw n := by unfold grw; split <;> omega
  refine brF (by (first | omega | ((try simp (disch := omega) only [L_le, le_L, L_lt, lt_L, eq_L, L_eq, I_le, I_lt, I_eq, I_ni, add_L, L_add, I_add, mul_L, L_mul, I_mul, sub_L, L_sub, I_sub, div_L, rem_L]); done) | ((try simp (disch := omega) only [L_le, le_L, L_lt, lt_L, eq_L, L_eq, I_le, I_lt, I_eq, I_ni, add_L, L_add, I_add, mul_L, L_mul, I_mul, sub_L, L_sub, I_sub, div_L, rem_L]); omega))) ?_
  refine brF (by (first | omega | ((try simp (disch := omega) only [L_le, le_L, L_lt, lt_L, eq_L, L_eq, I_le, I_lt, I_eq, I_ni, add_L, L_add, I_add, mul_L, L_mul, I_mul, sub_L, L_sub, I_sub, div_L, rem_L]); done) | ((try simp (disch := omega) only [L_le, le_L, L_lt, lt_L, eq_L, L_eq, I_le, I_lt, I_eq, I_ni, add_L, L_add, I_add, mul_L, L_mul, I_mul, sub_L, L_sub, I_sub, div_L, rem_L]); omega))) hQ

/-- what a list holds may lie in a row of things. -/
def LsO (c : HC) (n : Nat) (x : Nat → Nat) : Prop := ∀ i, i < n → x i < c.sz ∧ stk 44 (c.kd (x i)).1 = true

def WL (a d : Nat) : Nat → Nat → Prop := fun f b => (b = a ∧ (f = 2300 ∨ f = 2301 ∨ f = 2302)) ∨ (f = 0 ∧ b = d)

theorem war_ar (h : AH) (a : Nat) (f) (b : Nat) : (h.war a f).ar b = if b = a then f else h.ar b := rfl

theorem pc_add {a d m n v : Nat} {x : Nat → Nat} (X : Ls h.c a d m n x) (O : LsO h.c n x) (h1 : 1 ≤ m) (hn : n ≤ 1000) (hv : v < h.sz) (hk : stk 44 (h.kd v).1 = true) (hr : 1 ≤ h.rc) (hs : grw n ≤ h.rs) {Q : Int32 → AH → Prop}
    (hQ : ∀ h' d' m', Fr (WL a d) h.c h'.c → Ls h'.c a d' m' (n + 1) (updN x n v) → 1 ≤ m' → (d' = d ∨ d' = h.sz) → h.rc - 1 ≤ h'.rc → h.rs - grw n ≤ h'.rs → Q 1 h') : wp_J12_add a (some v) h Q := by
  have hsz : h.fi 2302 a = I n := X.sz
  have he : h.fr 2301 a = some d := X.e
  have hdk : h.kd d = (44, m) := X.dk
  have hal : a < h.sz := X.al
  have hdl : d < h.sz := X.dl
  have hnm := X.nm
  have hg : grw n ≤ 1501 ∧ n + 1 ≤ grw n := by unfold grw; split <;> omega
  unfold wp_J12_add
  refine ⟨nn_of rfl X.k, ?_⟩
  rintro _ rfl
  have F1 : Fr (WL a d) h.c (h.sfi 2300 a (h.fi 2300 a + 1)).c := (Fr.refl _).sfi _ (fun _ => .inl ⟨rfl, .inl rfl⟩)
  have e1 : (h.sfi 2300 a (h.fi 2300 a + 1)).fr 2301 a = some d := he
  have e2 : (h.sfi 2300 a (h.fi 2300 a + 1)).fi 2302 a = I n := by rw [sfi_ne _ _ _ _ (by decide)]; exact hsz
  rw [e1, e2]
  refine ⟨1, grw n, ⟨hr, hs⟩, ?_⟩
  generalize hH : (h.sfi 2300 a (h.fi 2300 a + 1)) = H at F1
  have Hkd : H.kd = h.kd := by rw [← hH]; rfl
  have Hsz : H.sz = h.sz := by rw [← hH]; rfl
  have Hfr : H.fr = h.fr := by rw [← hH]; rfl
  have Har : H.ar = h.ar := by rw [← hH]; rfl
  have Hf : H.fi 2302 a = I n := by rw [← hH]; exact e2
  have Hrc : H.rc = h.rc := by rw [← hH]; rfl
  have Hrs : H.rs = h.rs := by rw [← hH]; rfl
  show wp_J12_add_2 a (some v) (some d) (I n) (H.srm 1 (grw n)) _
  unfold wp_J12_add_2
  have Hkd' : (H.srm 1 (grw n)).kd d = (44, m) := by show H.kd d = _; rw [Hkd]; exact hdk
  have Hka : ((H.srm 1 (grw n)).kd a).1 = 23 := by show (H.kd a).1 = _; rw [Hkd]; exact X.k
  refine ⟨nn_of rfl (by rw [Hkd']), ?_⟩
  refine ⟨fun r T => ∃ d' m', r = some d' ∧ T.kd d' = (44, m') ∧ n < m' ∧ m' ≤ 100000 ∧ d' < T.sz ∧ (d' = d ∨ d' = h.sz) ∧ Fr (WL a d) h.c T.c ∧ (T.kd a).1 = 23 ∧ T.fr 2301 a = some d' ∧ T.fi 2302 a = I n ∧ (∀ i, i < n → T.ar d' i = some (x i)) ∧ a < T.sz ∧ T.kd v = h.kd v, ?_, ?_⟩
  · rw [adr_some, Hkd']
    by_cases e : n = m
    · subst e
      refine brT rfl ⟨nn_of rfl Hka, 1, grw n, ⟨Nat.le_refl _, Nat.le_refl _⟩, ?_⟩
      show wp_J12_grow a ((H.srm 1 (grw n)).srm 1 (grw n)) _
      unfold wp_J12_grow
      refine ⟨nn_of rfl Hka, 1, grw n, ⟨Nat.le_refl _, Nat.le_refl _⟩, ?_⟩
      show wp_J12_grow_2 a (H.fi 2302 a + 1) (H.srm 1 (grw n)) _
      rw [Hf]
      unfold wp_J12_grow_2
      have e3 : (H.srm 1 (grw n)).fr 2301 a = some d := by show H.fr 2301 a = _; rw [Hfr]; exact he
      rw [e3, adr_some, Hkd']
      refine ⟨nn_of rfl Hka, nn_of rfl (by rw [Hkd']), ?_⟩
      refine brT (show (0 : Int32) < I n by (first | omega | ((try simp (disch := omega) only [L_le, le_L, L_lt, lt_L, eq_L, L_eq, I_le, I_lt, I_eq, I_ni, add_L, L_add, I_add, mul_L, L_mul, I_mul, sub_L, L_sub, I_sub, div_L, rem_L]); done) | ((try simp (disch := omega) only [L_le, le_L, L_lt, lt_L, eq_L, L_eq, I_le, I_lt, I_eq, I_ni, add_L, L_add, I_add, mul_L, L_mul, I_mul, sub_L, L_sub, I_sub, div_L, rem_L]); omega))) ⟨0, 0, ⟨Nat.zero_le _, Nat.zero_le _⟩, ?_⟩
      refine pc_newLength (h := (H.srm 1 (grw n)).srm 0 0) hn h1 ?_
      intro h6 e6
      have e6' : h6 = H.srm 1 (grw n) := e6
      subst e6'
      refine ⟨nn_of rfl Hka, 1, grw n, ⟨Nat.le_refl _, Nat.le_refl _⟩, ?_⟩
      show wp_J6_copyOf_2 ((H.srm 1 (grw n)).fr 2301 a) (I (grw n)) (H.srm 1 (grw n)) _
      rw [e3]
      unfold wp_J6_copyOf_2
      refine ⟨nn_of rfl (by rw [Hkd']), 1, grw n, ⟨Nat.le_refl _, Nat.le_refl _⟩, ?_⟩
      show wp_J6_copyOf_3 (some d) (I (grw n)) (sref (H.cs 501)) (H.srm 1 (grw n)) _
      unfold wp_J6_copyOf_3
      have en : ni (I (grw n)) = grw n := I_ni (by omega)
      refine brT rfl ⟨⟨I_nonneg (by omega), by rw [en]; omega, Nat.le_refl _, by rw [en]; exact Nat.le_refl _⟩, ?_⟩
      rintro _ rfl
      rw [en]
      have zz : (H.srm 1 (grw n)).sz = h.sz := Hsz
      have kd2 : ((H.srm 1 (grw n)).new 44 (grw n) (grw n)).kd d = (44, n) := by
        rw [new_kd, if_neg (by rw [zz]; omega)]; exact Hkd'
      have kd3 : ((H.srm 1 (grw n)).new 44 (grw n) (grw n)).kd (H.srm 1 (grw n)).sz = (44, grw n) := by rw [new_kd, if_pos rfl]
      rw [adr_some, kd2]
      have emin : (if I (grw n) < nI n then I (grw n) else nI n) = I n := by
        show (if I (grw n) < I n then I (grw n) else I n) = I n
        rw [if_neg (show ¬ I (grw n) < I n by (first | omega | ((try simp (disch := omega) only [L_le, le_L, L_lt, lt_L, eq_L, L_eq, I_le, I_lt, I_eq, I_ni, add_L, L_add, I_add, mul_L, L_mul, I_mul, sub_L, L_sub, I_sub, div_L, rem_L]); done) | ((try simp (disch := omega) only [L_le, le_L, L_lt, lt_L, eq_L, L_eq, I_le, I_lt, I_eq, I_ni, add_L, L_add, I_add, mul_L, L_mul, I_mul, sub_L, L_sub, I_sub, div_L, rem_L]); omega)))]
      have ez : ni 0 = 0 := rfl
      rw [emin, I_ni (by omega), ez]
      have ar2 : ((H.srm 1 (grw n)).new 44 (grw n) (grw n)).ar d = h.ar d := by
        rw [new_ar, if_neg (by rw [zz]; omega)]; show H.ar d = _; rw [Har]
      refine ⟨nn_of rfl (by rw [kd2]), ⟨d, _, rfl, rfl, by rw [kd2], by rw [kd3], by decide, by decide, I_nonneg (by omega), by rw [kd2, ez, I_ni (by omega)]; show 0 + n ≤ n; omega, by rw [kd3, ez, I_ni (by omega)]; show 0 + n ≤ grw n; omega⟩, ?_, ?_⟩
      · intro i hi y hy
        rw [ar2, show 0 + i = i by omega] at hy
        have := X.el i hi
        simp only [pc_ar] at this
        rw [this] at hy
        have ey : x i = y := Option.some.inj hy
        have := O i hi
        show stk 44 (((H.srm 1 (grw n)).new 44 (grw n) (grw n)).kd y).1 = true
        rw [← ey, new_kd, if_neg (by rw [zz]; have h2 : x i < h.sz := this.1; omega)]
        show stk 44 (H.kd (x i)).1 = true
        rw [Hkd]; exact this.2
      · rintro _ rfl
        rintro _ rfl
        rintro _ rfl
        have hN : ∀ N : AH, N.c = (((H.srm 1 (grw n)).new 44 (grw n) (grw n)).war (H.srm 1 (grw n)).sz (va_cpy (((H.srm 1 (grw n)).new 44 (grw n) (grw n)).ar d) (((H.srm 1 (grw n)).new 44 (grw n) (grw n)).ar (H.srm 1 (grw n)).sz) 0 0 n)).c →
            (N.kd a).1 = 23 ∧ ∃ d' m', some (H.srm 1 (grw n)).sz = some d' ∧ (N.sfr 2301 a (some (H.srm 1 (grw n)).sz)).kd d' = (44, m') ∧ n < m' ∧ m' ≤ 100000 ∧ d' < (N.sfr 2301 a (some (H.srm 1 (grw n)).sz)).sz ∧ (d' = d ∨ d' = h.sz) ∧ Fr (WL a d) h.c (N.sfr 2301 a (some (H.srm 1 (grw n)).sz)).c ∧
              ((N.sfr 2301 a (some (H.srm 1 (grw n)).sz)).kd a).1 = 23 ∧ (N.sfr 2301 a (some (H.srm 1 (grw n)).sz)).fr 2301 a = some d' ∧ (N.sfr 2301 a (some (H.srm 1 (grw n)).sz)).fi 2302 a = I n ∧ (∀ i, i < n → (N.sfr 2301 a (some (H.srm 1 (grw n)).sz)).ar d' i = some (x i)) ∧ a < (N.sfr 2301 a (some (H.srm 1 (grw n)).sz)).sz ∧ (N.sfr 2301 a (some (H.srm 1 (grw n)).sz)).kd v = h.kd v := by
          intro N hNc
          have n1 : N.kd = ((H.srm 1 (grw n)).new 44 (grw n) (grw n)).kd := congrArg HC.kd hNc
          have n2 : N.sz = h.sz + 1 := (congrArg HC.sz hNc).trans (congrArg (· + 1) Hsz)
          have n3 : N.fi = ((H.srm 1 (grw n)).new 44 (grw n) (grw n)).fi := congrArg HC.fi hNc
          have n4 : N.ar = (((H.srm 1 (grw n)).new 44 (grw n) (grw n)).war (H.srm 1 (grw n)).sz (va_cpy (((H.srm 1 (grw n)).new 44 (grw n) (grw n)).ar d) (((H.srm 1 (grw n)).new 44 (grw n) (grw n)).ar (H.srm 1 (grw n)).sz) 0 0 n)).ar := congrArg HC.ar hNc
          have ka : (N.kd a).1 = 23 := by rw [n1, new_kd, if_neg (by rw [zz]; omega)]; exact Hka
          have FN : Fr (WL a d) h.c N.c := by
            rw [hNc]
            have F2 : Fr (WL a d) h.c ((H.srm 1 (grw n)).new 44 (grw n) (grw n)).c := Fr.new (h := H.srm 1 (grw n)) F1 _ _ _
            refine ⟨F2.sz, F2.bs, F2.kd, F2.fi, F2.fr, F2.ai, fun b hb hw => ?_⟩
            have hb' : b < h.sz := hb
            show (AH.war _ _ _).ar b = _
            rw [war_ar, if_neg (by rw [zz]; omega)]
            exact F2.ar b hb hw
          refine ⟨ka, (H.srm 1 (grw n)).sz, grw n, rfl, ?_, by omega, by omega, ?_, .inr zz, FN.sfr _ (fun _ => .inl ⟨rfl, .inr (.inl rfl)⟩), ka, sfr_same _ _ _ _, ?_, fun i hi => ?_, ?_, ?_⟩
          · show N.kd _ = _
            rw [n1, new_kd, if_pos rfl]
          · show _ < N.sz
            rw [n2, zz]; omega
          · show N.fi 2302 a = _
            rw [n3, new_fi, if_neg (by rw [zz]; omega)]
            exact Hf
          · show N.ar _ i = _
            rw [n4, war_ar, if_pos rfl]
            unfold va_cpy
            rw [if_pos ⟨by omega, by omega⟩, ar2, show 0 + (i - 0) = i by omega]
            exact X.el i hi
          · show a < N.sz
            rw [n2]; omega
          · show N.kd v = _
            rw [n1, new_kd, if_neg (by rw [zz]; omega)]
            show H.kd v = _
            rw [Hkd]
        refine ⟨nn_of rfl (hN _ rfl).1, ?_⟩
        rintro _ rfl
        rintro _ rfl
        rintro _ rfl
        exact (hN _ rfl).2
    · refine brF (fun hh => e ((I_eq (by omega) (by have := X.mb; omega)).1 hh)) ?_
      refine ⟨d, m, rfl, Hkd', by omega, X.mb, ?_, .inl rfl, F1, Hka, ?_, Hf, fun i hi => ?_, ?_, ?_⟩
      · show d < H.sz; rw [Hsz]; exact hdl
      · show H.fr 2301 a = _; rw [Hfr]; exact he
      · show H.ar d i = _; rw [Har]; exact X.el i hi
      · show a < H.sz; rw [Hsz]; exact hal
      · show H.kd v = _; rw [Hkd]
  · rintro r T ⟨d', m', rfl, t1, t2, t3, t4, t5, t6, t7, t8, t9, t10, t11, t12⟩
    refine ⟨ix_of rfl t1 t2 (by omega), .inr ⟨v, rfl, by rw [t12]; exact hk⟩, ?_⟩
    rintro _ rfl
    refine ⟨nn_of rfl t7, ?_⟩
    rintro _ rfl
    rintro _ rfl
    rw [adr_some, I_ni (by omega)]
    have F9 : Fr (WL a d) h.c ((T.sar d' n (some v)).sfi 2302 a (I n + 1)).c := by
      refine Fr.sfi (h := T.sar d' n (some v)) ?_ _ (fun _ => .inl ⟨rfl, .inr (.inr rfl)⟩)
      refine t6.sar _ _ (fun hh => ?_)
      rcases t5 with e | e
      · exact .inr ⟨rfl, e⟩
      · have h9 : d' < h.sz := hh
        omega
    refine hQ _ d' m' F9 ⟨t7, t11, ?_, t8, t1, t4, by omega, t3, fun i hi => ?_⟩ (by omega) t5 ?_ ?_
    · refine (sfi_same _ _ _ _).trans ?_
      exact add_L 1 n
    · show (T.sar d' n (some v)).ar d' i = _
      rw [sar_ar, if_pos rfl]
      by_cases e : i = n
      · rw [e, updN_same, updN_same]
      · rw [updN_ne _ _ e, updN_ne _ _ e]; exact t10 i (by omega)
    · show h.rc - 1 ≤ H.rc - 1; rw [Hrc]; exact Nat.le_refl _
    · show h.rs - grw n ≤ H.rs - grw n; rw [Hrs]; exact Nat.le_refl _
end
