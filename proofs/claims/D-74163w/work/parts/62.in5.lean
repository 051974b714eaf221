/-! plain: cn5 -/
set_option maxRecDepth 100000
section
variable {G : Gv} {T : Tv} {L : GA} {A : TA} {x o : Nat} {B : IA}

theorem px_goesT (W : G.WF) (X : T.WF G) {c0 : HC} (K0 : TjB c0 L A G T x o B) : ∀ (d : Nat) {h : AH} {s : TjS} {gr : Nat → Prop} {i : Nat}, unv s < d → Fr (WT B o) c0 h.c → TjR h.c o B (8 * T.n) s → TjI (T.is G) (T.ed G) gr s → TjN s →
    T.is G i → s.ord i = 0 → (∀ g, gr g → Rch (T.ed G) g i) → ∀ {Q : AH → Prop},
    (∀ h' s', Fr (WT B o) c0 h'.c → TjR h'.c o B (8 * T.n) s' → TjP (T.is G) (T.ed G) gr i s s' → TjN s' → h'.rc = h.rc → h'.rs = h.rs → Q h') → wp_X17_goes d o (I i) h Q
  | 0, _, _, _, _, hd, _, _, _, _, _, _, _, _, _ => absurd hd (Nat.not_lt_zero _)
  | d + 1, h, s, gr, i, hd, F, R, hI, hN, hi, h0, hr, Q, hQ => by
    have h40 := X.n40
    have hlt := X.isLt hi
    have K := K0.keep F
    have Y := K0.Y
    have hup := unv_push (s := s) (i := i) (by omega) h0
    have hN1 := hN.1
    have hN2 := hN.2
    have X1 : TjV h.c o B (h.ai B.od) (h.ai B.lw) (h.ai B.pi) (h.ai B.ip) (h.ai B.kn) (h.ai B.ik) (I s.kts) (I s.pd) (I s.met) := ⟨rfl, rfl, rfl, rfl, rfl, rfl, R.n1, R.n2, R.n3⟩
    show wo_X17_goes (wp_X17_goes d) o (I i) h Q
    unfold wo_X17_goes
    refine ⟨nn_of rfl K.J.k, ?_⟩
    intro h2 e2
    have a9 : h.fi 1709 o = I s.met := R.n3
    have e2' : h2 = h.sfi 1709 o (I (s.met + 1)) := by rw [e2, a9]; congr 1; exact add_L 1 _
    clear e2
    have X2 : TjV h2.c o B (h.ai B.od) (h.ai B.lw) (h.ai B.pi) (h.ai B.ip) (h.ai B.kn) (h.ai B.ik) (I s.kts) (I s.pd) (I (s.met + 1)) := by rw [e2']; exact X1.s9 _
    have F2 : Fr (WT B o) c0 h2.c := by rw [e2']; exact F.sfi _ (fun _ => .inr ⟨.inr (.inr rfl), rfl⟩)
    have c2 : h2.rc = h.rc ∧ h2.rs = h.rs := by rw [e2']; exact ⟨rfl, rfl⟩
    clear e2'
    have K2 := K0.keep F2
    have f2 : h2.fr 1702 o = some B.od := K2.Y.f2
    have n2 : h2.fi 1709 o = I (s.met + 1) := X2.a9
    rw [f2, adr_some, n2, I_ni (by omega)]
    refine ⟨ix_of rfl K2.Y.k2 (by omega) (by decide), ?_⟩
    intro h3 e3
    have X3 : TjV h3.c o B (updN (h.ai B.od) i (I (s.met + 1))) (h.ai B.lw) (h.ai B.pi) (h.ai B.ip) (h.ai B.kn) (h.ai B.ik) (I s.kts) (I s.pd) (I (s.met + 1)) := by rw [e3]; exact X2.sod Y i _
    have F3 : Fr (WT B o) c0 h3.c := by rw [e3]; exact F2.sai _ _ (fun _ => .inl ⟨rfl, .inr (.inl rfl)⟩)
    have c3 : h3.rc = h.rc ∧ h3.rs = h.rs := by rw [e3]; exact c2
    clear e3
    have K3 := K0.keep F3
    have f3 : h3.fr 1703 o = some B.lw := K3.Y.f3
    have n3 : h3.fi 1709 o = I (s.met + 1) := X3.a9
    rw [f3, adr_some, n3]
    refine ⟨ix_of rfl K3.Y.k3 (by omega) (by decide), ?_⟩
    intro h4 e4
    have X4 : TjV h4.c o B (updN (h.ai B.od) i (I (s.met + 1))) (updN (h.ai B.lw) i (I (s.met + 1))) (h.ai B.pi) (h.ai B.ip) (h.ai B.kn) (h.ai B.ik) (I s.kts) (I s.pd) (I (s.met + 1)) := by rw [e4]; exact X3.slw Y i _
    have F4 : Fr (WT B o) c0 h4.c := by rw [e4]; exact F3.sai _ _ (fun _ => .inl ⟨rfl, .inr (.inr (.inl rfl))⟩)
    have c4 : h4.rc = h.rc ∧ h4.rs = h.rs := by rw [e4]; exact c3
    clear e4
    have K4 := K0.keep F4
    have f4 : h4.fr 1704 o = some B.pi := K4.Y.f4
    have n4 : h4.fi 1708 o = I s.pd := X4.a8
    rw [f4, adr_some, n4, I_ni (by omega)]
    refine ⟨ix_of rfl K4.Y.k4 (by omega) (by decide), ?_⟩
    intro h5 e5
    have X5 : TjV h5.c o B (updN (h.ai B.od) i (I (s.met + 1))) (updN (h.ai B.lw) i (I (s.met + 1))) (updN (h.ai B.pi) s.pd (I i)) (h.ai B.ip) (h.ai B.kn) (h.ai B.ik) (I s.kts) (I s.pd) (I (s.met + 1)) := by rw [e5]; exact X4.spi Y _ _
    have F5 : Fr (WT B o) c0 h5.c := by rw [e5]; exact F4.sai _ _ (fun _ => .inl ⟨rfl, .inr (.inr (.inr (.inl rfl)))⟩)
    have c5 : h5.rc = h.rc ∧ h5.rs = h.rs := by rw [e5]; exact c4
    clear e5
    intro h6 e6
    have n5 : h5.fi 1708 o = I s.pd := X5.a8
    have e6' : h6 = h5.sfi 1708 o (I (s.pd + 1)) := by rw [e6, n5]; congr 1; exact add_L 1 _
    have X6 : TjV h6.c o B (updN (h.ai B.od) i (I (s.met + 1))) (updN (h.ai B.lw) i (I (s.met + 1))) (updN (h.ai B.pi) s.pd (I i)) (h.ai B.ip) (h.ai B.kn) (h.ai B.ik) (I s.kts) (I (s.pd + 1)) (I (s.met + 1)) := by rw [e6']; exact X5.s8 _
    have F6 : Fr (WT B o) c0 h6.c := by rw [e6']; exact F5.sfi _ (fun _ => .inr ⟨.inr (.inl rfl), rfl⟩)
    have c6 : h6.rc = h.rc ∧ h6.rs = h.rs := by rw [e6']; exact c5
    clear e6 e6'
    have K6 := K0.keep F6
    have f5 : h6.fr 1705 o = some B.ip := K6.Y.f5
    rw [f5, adr_some, nar_1]
    refine ⟨ix_of rfl K6.Y.k5 (by omega) (by decide), ?_⟩
    intro h7 e7
    have X7 : TjV h7.c o B (updN (h.ai B.od) i (I (s.met + 1))) (updN (h.ai B.lw) i (I (s.met + 1))) (updN (h.ai B.pi) s.pd (I i)) (updN (h.ai B.ip) i 1) (h.ai B.kn) (h.ai B.ik) (I s.kts) (I (s.pd + 1)) (I (s.met + 1)) := by rw [e7]; exact X6.sip Y _ _
    have F7 : Fr (WT B o) c0 h7.c := by rw [e7]; exact F6.sai _ _ (fun _ => .inl ⟨rfl, .inr (.inr (.inr (.inr (.inl rfl))))⟩)
    have c7 : h7.rc = h.rc ∧ h7.rs = h.rs := by rw [e7]; exact c6
    clear e7
    have R7 : TjR h7.c o B (8 * T.n) (tjpush s i) := TjV.push R X1 (hI.p4 i h0) X7
    clear X1 X2 X3 X4 X5 X6 X7 F2 F3 F4 F5 F6 c2 c3 c4 c5 c6 K2 K3 K4 K6 f2 f3 f4 f5 n2 n3 n4 n5 a9
    have L7 : TjL (T.is G) (T.ed G) gr i (fun _ => False) s (tjpush s i) := tjpush_ok hI hi h0 hr
    have N7 : TjN (tjpush s i) := ⟨by show s.kts + (s.pd + 1) ≤ s.met + 1; omega, by show s.met + 1 + unv (tjpush s i) ≤ 320; omega⟩
    have K7 := K0.keep F7
    refine px_askedI (h := h7.srm 0 0) W X K7.S K7.R K7.J hi (pu ?_)
    refine xlp_cnt 32 (fun k q U => q = I k ∧ ∃ t, Fr (WT B o) c0 U.c ∧ TjR U.c o B (8 * T.n) t ∧ TjL (T.is G) (T.ed G) gr i (fun w => ∃ u, u < k ∧ bt (T.ask G i) u = true ∧ T.oth G i u = w) s t ∧ TjN t ∧ unv t ≤ unv (tjpush s i) ∧ U.rc = h.rc ∧ U.rs = h.rs)
      ⟨rfl, tjpush s i, F7, R7, L7.monoD (fun w hw => by obtain ⟨u, hu, _⟩ := hw; omega), N7, Nat.le_refl _, c7.1, c7.2⟩ ?_
    clear L7 N7 K7 R7 F7 c7
    rintro k _ U KK hk ⟨rfl, t, FU, RU, LU, NU, uU, cU, sU⟩ hK
    have KU := K0.keep FU
    have NU1 := NU.1
    have NU2 := NU.2
    have f2 : U.fr 1702 o = some B.od := KU.Y.f2
    have f3 : U.fr 1703 o = some B.lw := KU.Y.f3
    have f5 : U.fr 1705 o = some B.ip := KU.Y.f5
    have ordle : ∀ v, t.ord v ≤ 320 := fun v => by have := LU.I.a1 v; omega
    have lowle : t.low i ≤ 320 := by have := LU.l2b; have := ordle i; omega
    have eli : U.ai B.lw i = I (t.low i) := RU.lw i (by omega)
    have eoi : U.ai B.od i = I (t.ord i) := RU.od i (by omega)
    by_cases e32 : k = 32
    · subst e32
      have LF : TjL (T.is G) (T.ed G) gr i (fun _ => True) s t := LU.full (fun w hw => by
        obtain ⟨_, u, hu, h1, h2⟩ := hw
        exact ⟨u, hu, h1, h2⟩)
      refine brT (by (first | omega | ((try simp (disch := omega) only [L_le, le_L, L_lt, lt_L, eq_L, L_eq, I_le, I_lt, I_eq, I_ni, add_L, L_add, I_add, mul_L, L_mul, I_mul, sub_L, L_sub, I_sub, div_L, rem_L]); done) | ((try simp (disch := omega) only [L_le, le_L, L_lt, lt_L, eq_L, L_eq, I_le, I_lt, I_eq, I_ni, add_L, L_add, I_add, mul_L, L_mul, I_mul, sub_L, L_sub, I_sub, div_L, rem_L]); omega))) ⟨nn_of rfl KU.J.k, ?_⟩
      rw [f3, f2, adr_some, adr_some, eli, eoi]
      refine ⟨ix_of rfl KU.Y.k3 (by omega) (by decide), ix_of rfl KU.Y.k2 (by omega) (by decide), ?_⟩
      have hoi := ordle i
      by_cases elo : t.low i = t.ord i
      · refine brT (by rw [elo]) ?_
        refine px_closesI (h := U.srm 0 0) W X K0 LF FU RU NU hi ?_
        intro h' b hb F' R' c' s'
        rintro _ rfl
        refine hQ _ _ F' R' (LF.closes elo hb) ⟨?_, NU2⟩ cU sU
        show t.kts + 1 + s.pd ≤ t.met
        have := LF.pd
        omega
      · exact brF (fun hh => elo ((I_eq (by omega) (by omega)).1 hh)) (hQ U t FU RU (LF.stays elo) NU cU sU)
    have hk32 : k < 32 := by omega
    refine brF (by (first | omega | ((try simp (disch := omega) only [L_le, le_L, L_lt, lt_L, eq_L, L_eq, I_le, I_lt, I_eq, I_ni, add_L, L_add, I_add, mul_L, L_mul, I_mul, sub_L, L_sub, I_sub, div_L, rem_L]); done) | ((try simp (disch := omega) only [L_le, le_L, L_lt, lt_L, eq_L, L_eq, I_le, I_lt, I_eq, I_ni, add_L, L_add, I_add, mul_L, L_mul, I_mul, sub_L, L_sub, I_sub, div_L, rem_L]); omega))) ?_
    refine px_has (h := U.srm 0 0) hk32 (pu ?_)
    (try simp (disch := omega) only [L_le, le_L, L_lt, lt_L, eq_L, L_eq, I_le, I_lt, I_eq, I_ni, add_L, L_add, I_add, mul_L, L_mul, I_mul, sub_L, L_sub, I_sub, div_L, rem_L])
    by_cases hbk : bt (T.ask G i) k = true
    · rw [if_pos hbk]
      refine brF (by decide) ⟨nn_of rfl KU.J.k, ?_⟩
      refine px_other (h := U.srm 0 0) W X KU.S KU.R KU.J hi hbk (pu ⟨nn_of rfl KU.J.k, ?_⟩)
      obtain ⟨_, _, _, _, _, _, hon⟩ := X.oth_is W hi hbk
      generalize hj : T.oth G i k = j at hon
      have hjlt := X.isLt hon
      have hed : T.ed G i j := ⟨hi, k, hk32, hbk, hj⟩
      have hD : ∀ w, (∃ u, u < k + 1 ∧ bt (T.ask G i) u = true ∧ T.oth G i u = w) → (∃ u, u < k ∧ bt (T.ask G i) u = true ∧ T.oth G i u = w) ∨ w = j := by
        rintro w ⟨u, hu, h1, h2⟩
        by_cases e : u = k
        · right; rw [← h2, e]; exact hj
        · left; exact ⟨u, by omega, h1, h2⟩
      have eoj : U.ai B.od j = I (t.ord j) := RU.od j (by omega)
      have eij : U.ai B.ip j = if t.ord j ≠ 0 ∧ t.kn j = none then 1 else 0 := RU.ip j (by omega)
      rw [f2, adr_some, I_ni (show j < 2147483648 by omega), eoj]
      refine ⟨ix_of rfl KU.Y.k2 (by omega) (by decide), ?_⟩
      have hoj := ordle j
      by_cases hz : t.ord j = 0
      · rw [hz]
        refine brT rfl ?_
        have hrr : ∀ g, (gr g ∨ g = i) → Rch (T.ed G) g j := by
          rintro g (hg | hg)
          · exact (hr g hg).trans (Rch.one hed)
          · rw [hg]; exact Rch.one hed
        refine px_goesT W X K0 d (h := U.srm 0 0) (s := t) (gr := fun v => gr v ∨ v = i) (i := j) (by omega) FU RU LU.I NU hon hz hrr ?_
        intro h' s' F' R' P' N' _ _
        rintro _ rfl
        have KP := K0.keep F'
        have f3' : h'.fr 1703 o = some B.lw := KP.Y.f3
        have LW := LU.went hed hz P'
        have el1 : h'.ai B.lw i = I (s'.low i) := R'.lw i (by omega)
        have el2 : h'.ai B.lw j = I (s'.low j) := R'.lw j (by omega)
        have N1 := N'.1
        have N2 := N'.2
        have ol : ∀ v, s'.ord v ≤ 320 := fun v => by have := P'.I.a1 v; omega
        have hli : s'.low i ≤ 320 := by rw [P'.X.lw i LU.ii.1]; exact lowle
        have hlj : s'.low j < 2147483648 := by
          rcases P'.r with ⟨_, _, hh⟩ | ⟨_, _, hh, _⟩
          · have := ol j; omega
          · have := ol j; omega
        refine ⟨nn_of rfl KP.J.k, ?_⟩
        have g3 : (h'.srm U.rc U.rs).fr 1703 o = some B.lw := f3'
        have g1 : (h'.srm U.rc U.rs).ai B.lw i = I (s'.low i) := el1
        have g2 : (h'.srm U.rc U.rs).ai B.lw j = I (s'.low j) := el2
        rw [g3, adr_some, g1, g2]
        refine ⟨ix_of rfl KP.Y.k3 (by omega) (by decide), ix_of rfl KP.Y.k3 (by omega) (by decide), ?_⟩
        refine px_lesser (h := (h'.srm U.rc U.rs).srm 0 0) (by omega) hlj (pu ?_)
        refine ⟨ix_of rfl KP.Y.k3 (by omega) (by decide), ?_⟩
        rintro _ rfl
        refine hK _ _ hk32 ⟨rfl, _, Fr.sai (h := h'.srm U.rc U.rs) F' _ _ (fun _ => .inl ⟨rfl, .inr (.inr (.inl rfl))⟩), TjR.low (h := h'.srm U.rc U.rs) R' KP.Y (by omega), LW.monoD hD, N', ?_, cU, sU⟩
        exact Nat.le_trans (unv_le P'.X.o) uU
      · refine brF (fun hh => hz ((eq_L 0 (by decide) (by omega)).1 hh)) ?_
        rw [f5, adr_some, eij]
        refine ⟨ix_of rfl KU.Y.k5 (by omega) (by decide), ?_⟩
        by_cases hkn : t.kn j = none
        · rw [if_pos ⟨hz, hkn⟩]
          refine brF (by decide) ?_
          rw [f3, adr_some, eli]
          refine ⟨ix_of rfl KU.Y.k3 (by omega) (by decide), ix_of (a := B.od) rfl KU.Y.k2 (by omega) (by decide), ?_⟩
          refine px_lesser (h := U.srm 0 0) (by omega) (by omega) (pu ?_)
          refine ⟨ix_of rfl KU.Y.k3 (by omega) (by decide), ?_⟩
          rintro _ rfl
          refine hK _ _ hk32 ⟨rfl, _, FU.sai _ _ (fun _ => .inl ⟨rfl, .inr (.inr (.inl rfl))⟩), RU.low KU.Y (by omega), (LU.piled hed ⟨hz, hkn⟩).monoD hD, NU, uU, cU, sU⟩
        · rw [if_neg (fun hh => hkn hh.2)]
          exact brT rfl (hK _ _ hk32 ⟨rfl, t, FU, RU, (LU.past hz hkn).monoD hD, NU, uU, cU, sU⟩)
    · rw [if_neg hbk]
      refine brT rfl (hK _ _ hk32 ⟨rfl, t, FU, RU, LU.monoD (fun w hw => ?_), NU, uU, cU, sU⟩)
      obtain ⟨u, hu, h1, h2⟩ := hw
      by_cases e : u = k
      · rw [e] at h1; exact absurd h1 hbk
      · exact ⟨u, by omega, h1, h2⟩
end
