/-! plain: ko -/
set_option maxRecDepth 100000
section
variable {h : AH} {lo q o jn tpa : Nat} {tp : Nat → Nat} {n : Nat} {t : Tk}

theorem jn_case {U : AH} {wa wv : Nat} {w : List Nat} (S : StR U.c wa wv w) (Z : CoR U.c) {i : Nat} (hi : i < 24) {C M : Int32} (hC : hN (ksb i) = C) {J : Int32 → AH → Prop} (h0 : w = ksb i → J M U) (h1 : hN w = C → w ≠ ksb i → J (-1) U) {B : Prop} (hB : w ≠ ksb i → B) :
    ((hN w = C → nn U (some wa) 22 ∧ wp_J2_equals (adr (some wa)) (sref (U.cs i)) (U.srm 0 0) fun r18 h19 => ∀ h20, h20 = h19.srm U.rc U.rs → ∀ m21 : Int32, m21 = (if r18 = 0 then (-1) else M) → J m21 h20) ∧ (¬ hN w = C → B)) := by
  refine ⟨fun hh => ?_, fun hh => hB (fun e => hh (by rw [e]; exact hC))⟩
  obtain ⟨a, v, e1, e2, _, _⟩ := Z i hi
  rw [show sref (U.cs i) = some a from e1]
  refine ⟨nn_of rfl S.k, ?_⟩
  rw [adr_some]
  refine pc_equals (h := U.srm 0 0) S e2 ?_
  intro h20 e20 m em
  have e20' : h20 = U := by rw [e20]; rfl
  rw [e20']
  by_cases hw : w = ksb i
  · rw [if_pos hw, if_neg (by decide)] at em
    rw [em]; exact h0 hw
  · rw [if_neg hw, if_pos rfl] at em
    rw [em]; exact h1 hh hw
/-- which text tells what joins. -/
def jci (k : Nat) : Nat := if k < 6 then 17 + k else k + 2
theorem hN_j : hN (ksb 21) = 38 ∧ hN (ksb 19) = 42 ∧ hN (ksb 17) = 43 ∧ hN (ksb 18) = 45 ∧ hN (ksb 22) = 60 ∧ hN (ksb 20) = 124 ∧ hN (ksb 8) = 107876 ∧ hN (ksb 9) = 108114 := by decide +kernel
theorem jnt_some {k : Fin 8} (hk : ∃ fr, t = tokA tp n fr) (h1 : t.kd ≠ 1) (hd : dgt tp n t.fr = false) (hw : wrd tp t = ksb (jci k.val)) : jnt tp t = some (jc k) := by
  have sg : ∀ c, sgn c = true → wrd tp t = [c] → isSg t c = true := fun c hc e => (isB_s hk hc).1 ⟨h1, hd, e⟩
  have wd : ∀ j, j < 9 → wrd tp t = kw j → isW tp t j = true := fun j hj e => (isB_w hk hj).1 ⟨h1, hd, e⟩
  have nW : t.kd = 4 → ∀ j, isW tp t j = false := fun h4 j => by
    cases hh : isW tp t j with
    | false => rfl
    | true => have := (isW_iff.1 hh).1; omega
  have sgs : ∀ c, isSg t c = true → (c = 43 ∨ c = 45 ∨ c = 42 ∨ c = 124 ∨ c = 38 ∨ c = 60) → jnt tp t = some c := by
    intro c hc hcc
    obtain ⟨h4, e⟩ := isSg_iff.1 hc
    unfold jnt
    rw [nW h4, nW h4, if_neg (by decide), if_neg (by decide), if_pos, e]
    rcases hcc with e | e | e | e | e | e <;> rw [e] at hc <;> rw [hc] <;> simp
  match k, hw with
  | ⟨0, _⟩, hw => exact sgs 43 (sg 43 (by decide) hw) (by simp)
  | ⟨1, _⟩, hw => exact sgs 45 (sg 45 (by decide) hw) (by simp)
  | ⟨2, _⟩, hw => exact sgs 42 (sg 42 (by decide) hw) (by simp)
  | ⟨3, _⟩, hw => exact sgs 124 (sg 124 (by decide) hw) (by simp)
  | ⟨4, _⟩, hw => exact sgs 38 (sg 38 (by decide) hw) (by simp)
  | ⟨5, _⟩, hw => exact sgs 60 (sg 60 (by decide) hw) (by simp)
  | ⟨6, _⟩, hw =>
    have := wd 6 (by decide) hw
    unfold jnt
    rw [if_pos this]; rfl
  | ⟨7, _⟩, hw =>
    have := wd 7 (by decide) hw
    have n6 : isW tp t 6 = false := by
      cases hh : isW tp t 6 with
      | false => rfl
      | true =>
        have e := (isW_iff.1 hh).2
        have e2 : wrd tp t = kw 7 := hw
        rw [e2] at e
        exact absurd e (by decide)
    unfold jnt
    rw [n6, if_neg (by decide), if_pos this]; rfl
theorem jnt_none (hk : ∃ fr, t = tokA tp n fr) (hw : t.kd ≠ 1 → dgt tp n t.fr = false → ∀ k, k < 8 → wrd tp t ≠ ksb (jci k)) : jnt tp t = none := by
  have ns : ∀ c k, k < 8 → ksb (jci k) = [c] → sgn c = true → isSg t c = false := by
    intro c k hk8 e hc
    cases hh : isSg t c with
    | false => rfl
    | true =>
      obtain ⟨a, b, d⟩ := (isB_s hk hc).2 hh
      exact absurd (d.trans e.symm) (hw a b k hk8)
  have nw : ∀ j k, k < 8 → j < 9 → ksb (jci k) = kw j → isW tp t j = false := by
    intro j k hk8 hj e
    cases hh : isW tp t j with
    | false => rfl
    | true =>
      obtain ⟨a, b, d⟩ := (isB_w hk hj).2 hh
      exact absurd (d.trans e.symm) (hw a b k hk8)
  unfold jnt
  rw [nw 6 6 (by decide) (by decide) rfl, nw 7 7 (by decide) (by decide) rfl, ns 43 0 (by decide) rfl (by decide), ns 45 1 (by decide) rfl (by decide), ns 42 2 (by decide) rfl (by decide), ns 124 3 (by decide) rfl (by decide), ns 38 4 (by decide) rfl (by decide), ns 60 5 (by decide) rfl (by decide)]
  rfl
theorem jn_body {U : AH} (K : RdK U.c lo q o jn tpa tp n t) {k : Nat} (hk : k < 8) {x : Int32} (hx : x = I k) (hc : 5 ≤ U.rc) (hs : 68 ≤ U.rs) {Q : Option Nat → AH → Prop}
    (hQ : ∀ h', Fr (WG lo q) U.c h'.c → RdK h'.c lo q o jn tpa tp n (nxt tp n t) → h'.rc = U.rc - 5 → h'.rs = U.rs - 68 → Q (sref (U.cs (600 + k))) h') :
    nn U (some q) 3 ∧ cl U fun mc ms => wp_X2_reads q (U.srm mc ms) fun h95 => ∀ h96, h96 = h95.srm (U.rc - mc) (U.rs - ms) → nn h96 (some q) 3 ∧ nn h96 (h96.fr 313 q) 1 ∧ ix h96 (h96.fr 100 (adr (h96.fr 313 q))) 45 x ∧ Q (h96.ar (adr (h96.fr 100 (adr (h96.fr 313 q)))) (ni x)) h96 := by
  refine ⟨nn_of rfl K.R.k, ?_⟩
  refine g_reads K hc hs ?_
  intro h96 F96 K96 c96 s96
  have B := K96.R.B
  refine ⟨nn_of rfl K96.R.k, ?_⟩
  rw [show h96.fr 313 q = some o from K96.R.u]
  refine ⟨B.nn, ?_⟩
  rw [adr_some, show h96.fr 100 o = some jn from B.j1, hx]
  refine ⟨ix_of rfl (show h96.kd jn = (45, 8) from B.j2) hk (by decide), ?_⟩
  rw [adr_some, I_ni (by omega), show h96.ar jn k = sref (h96.c.cs (600 + k)) from B.j4 k hk]
  have e : h96.c.cs (600 + k) = U.cs (600 + k) := by
    show h96.c.bs.2 _ = U.c.bs.2 _
    rw [F96.bs]
  rw [e]
  exact hQ h96 F96 K96 c96 s96

theorem g_joins (K : RdK h.c lo q o jn tpa tp n t) (Z6 : NzJ h.c) (hc : jnt tp t ≠ none → 5 ≤ h.rc) (hs : jnt tp t ≠ none → 68 ≤ h.rs) {P : Option Nat → AH → Prop}
    (h0 : jnt tp t = none → ∀ h', Fr (WG lo q) h.c h'.c → RdK h'.c lo q o jn tpa tp n t → h'.rc = h.rc → h'.rs = h.rs → P none h')
    (h1 : ∀ k : Fin 8, jnt tp t = some (jc k) → ∀ h', Fr (WG lo q) h.c h'.c → RdK h'.c lo q o jn tpa tp n (nxt tp n t) → h'.rc = h.rc - 5 → h'.rs = h.rs - 68 → ∀ a, sref (h.cs (600 + k.val)) = some a → P (some a) h') :
    cl h fun mc ms => wp_X2_joins q (h.srm mc ms) fun r h3 => ∀ h4, h4 = h3.srm (h.rc - mc) (h.rs - ms) → P r h4 := by
  have key : ∀ u v, (jnt tp t = none → u = 0 ∧ v = 0) → (jnt tp t ≠ none → u = 5 ∧ v = 68) → u ≤ h.rc → v ≤ h.rs → wp_X2_joins q (h.srm u v) fun r h3 => ∀ h4, h4 = h3.srm (h.rc - u) (h.rs - v) → P r h4 := by
    intro u v huv0 huv1 hu hv
    unfold wp_X2_joins
    refine ⟨nn_of rfl K.R.k, ?_⟩
    have out : ∀ (V : AH), jnt tp t = none → Fr (WG lo q) h.c V.c → RdK V.c lo q o jn tpa tp n t → ∀ h4, h4 = V.srm (h.rc - u) (h.rs - v) → P none h4 := by
      intro V hj FV KV h4 e4
      have c4 : h4.c = V.c := by rw [e4]; rfl
      obtain ⟨u0, v0⟩ := huv0 hj
      exact h0 hj h4 (by rw [c4]; exact FV) (by rw [c4]; exact KV) (by rw [e4, u0]; rfl) (by rw [e4, v0]; rfl)
    have f8 : (h.srm u v).fi 308 q = if t.kd = 1 then 1 else 0 := K.T.f8
    have f7 : (h.srm u v).fi 307 q = if dgt tp n t.fr then 1 else 0 := K.T.f7
    rw [f8, f7]
    by_cases e1 : t.kd = 1
    · rw [if_pos e1]
      exact brF (by decide) (out _ (jnt_none K.T.kk (fun hh => absurd e1 hh)) (Fr.refl h.c) K)
    rw [if_neg e1]
    refine brT rfl ?_
    by_cases hd : dgt tp n t.fr = true
    · rw [if_pos hd]
      exact brF (by decide) (out _ (jnt_none K.T.kk (fun _ hh => by rw [hd] at hh; exact absurd hh (by decide))) (Fr.refl h.c) K)
    have hd' : dgt tp n t.fr = false := by simpa using hd
    rw [if_neg hd]
    refine brT rfl ?_
    refine px_isEnd (h := (h.srm u v).srm 0 0) K ?_
    intro h6 e6
    have e6' : h6 = h.srm u v := by rw [e6]; rfl
    rw [e6']
    by_cases e0 : t.kd = 0
    · rw [if_pos e0]
      refine brF (by decide) (out _ (jnt_none K.T.kk (fun _ _ k hk hh => ?_)) (Fr.refl h.c) K)
      have hl := wrd_len (tp := tp) t
      obtain ⟨fr, ht⟩ := K.T.kk
      have hn := (tokA_kd0 (tp := tp) (n := n) fr).1 (by rw [← ht]; exact e0)
      have e9 : t = (fr, fr, 0, 0, 0) := by rw [ht]; unfold tokA; rw [if_neg (by omega)]
      rw [hh, e9] at hl
      have h9 : (ksb (jci k)).length = fr - fr := hl
      have key : ∀ k : Fin 8, 1 ≤ (ksb (jci k.1)).length := by decide
      have h8 : 1 ≤ (ksb (jci k)).length := key ⟨k, hk⟩
      omega
    rw [if_neg e0]
    obtain ⟨wa, wv, w1, w2, w3⟩ := K.T.w0 e1
    have w1' : (h.srm u v).fr 305 q = some wa := w1
    rw [w1']
    refine brT rfl ⟨nn_of rfl K.R.k, nn_of rfl w2.k, 0, 0, ⟨Nat.zero_le _, Nat.zero_le _⟩, ?_⟩
    rw [adr_some]
    refine pc_hashCode (h := (h.srm u v).srm 0 0) w2 w3 ?_
    intro h11 F11 S11 H11 _ _ h12 e12
    have c12 : h12.c = h11.c := by rw [e12]; rfl
    have F12 : Fr (WH wa) h.c h12.c := by rw [c12]; exact F11
    have S12 : StR h12.c wa wv (wrd tp t) := by rw [c12]; exact S11
    have H12 : HsR h12.c wa (wrd tp t) := by rw [c12]; exact H11
    obtain ⟨K12, G12⟩ := K.hash w1 F12 S12 H12 w3.b
    have Z := K12.R.z
    have r12 : h12.rc = u ∧ h12.rs = v := by
      rw [e12]
      show u - 0 = u ∧ v - 0 = v
      omega
    clear e12
    obtain ⟨a4, a2, a0, a1, a5, a3, a6, a7⟩ := hN_j
    have oth : ∀ {C : Int32}, hN (wrd tp t) = C → ∀ j, hN (ksb j) ≠ C → wrd tp t ≠ ksb j := fun hC j hj e => hj (by rw [← e]; exact hC)
    have ne : ∀ {j : Nat} {C D : Int32}, hN (ksb j) = D → D ≠ C → hN (ksb j) ≠ C := fun e1 e2 e3 => e2 (e1.symm.trans e3)
    have all : wrd tp t ≠ ksb 21 → wrd tp t ≠ ksb 19 → wrd tp t ≠ ksb 17 → wrd tp t ≠ ksb 18 → wrd tp t ≠ ksb 22 → wrd tp t ≠ ksb 20 → wrd tp t ≠ ksb 8 → wrd tp t ≠ ksb 9 → ∀ k, k < 8 → wrd tp t ≠ ksb (jci k) := by
      intro b4 b2 b0 b1 b5 b3 b6 b7 k hk
      rcases (show k = 0 ∨ k = 1 ∨ k = 2 ∨ k = 3 ∨ k = 4 ∨ k = 5 ∨ k = 6 ∨ k = 7 by omega) with e | e | e | e | e | e | e | e <;> rw [e] <;> assumption
    refine ⟨fun x U => U = h12 ∧ ((x = -1 ∧ ∀ k, k < 8 → wrd tp t ≠ ksb (jci k)) ∨ ∃ k : Fin 8, x = I k.val ∧ wrd tp t = ksb (jci k.val)), ?_, ?_⟩
    · refine jn_case (J := fun x U => U = h12 ∧ ((x = -1 ∧ ∀ k, k < 8 → wrd tp t ≠ ksb (jci k)) ∨ ∃ k : Fin 8, x = I k.val ∧ wrd tp t = ksb (jci k.val))) S12 Z (i := 21) (by decide) a4 (fun e => ⟨rfl, .inr ⟨⟨4, by decide⟩, rfl, e⟩⟩) (fun hC b4 => ⟨rfl, .inl ⟨rfl, all b4 (oth hC 19 (ne a2 (by decide))) (oth hC 17 (ne a0 (by decide))) (oth hC 18 (ne a1 (by decide))) (oth hC 22 (ne a5 (by decide))) (oth hC 20 (ne a3 (by decide))) (oth hC 8 (ne a6 (by decide))) (oth hC 9 (ne a7 (by decide)))⟩⟩) (fun b4 => ?_)
      refine jn_case (J := fun x U => U = h12 ∧ ((x = -1 ∧ ∀ k, k < 8 → wrd tp t ≠ ksb (jci k)) ∨ ∃ k : Fin 8, x = I k.val ∧ wrd tp t = ksb (jci k.val))) S12 Z (i := 19) (by decide) a2 (fun e => ⟨rfl, .inr ⟨⟨2, by decide⟩, rfl, e⟩⟩) (fun hC b2 => ⟨rfl, .inl ⟨rfl, all b4 b2 (oth hC 17 (ne a0 (by decide))) (oth hC 18 (ne a1 (by decide))) (oth hC 22 (ne a5 (by decide))) (oth hC 20 (ne a3 (by decide))) (oth hC 8 (ne a6 (by decide))) (oth hC 9 (ne a7 (by decide)))⟩⟩) (fun b2 => ?_)
      refine jn_case (J := fun x U => U = h12 ∧ ((x = -1 ∧ ∀ k, k < 8 → wrd tp t ≠ ksb (jci k)) ∨ ∃ k : Fin 8, x = I k.val ∧ wrd tp t = ksb (jci k.val))) S12 Z (i := 17) (by decide) a0 (fun e => ⟨rfl, .inr ⟨⟨0, by decide⟩, rfl, e⟩⟩) (fun hC b0 => ⟨rfl, .inl ⟨rfl, all b4 b2 b0 (oth hC 18 (ne a1 (by decide))) (oth hC 22 (ne a5 (by decide))) (oth hC 20 (ne a3 (by decide))) (oth hC 8 (ne a6 (by decide))) (oth hC 9 (ne a7 (by decide)))⟩⟩) (fun b0 => ?_)
      refine jn_case (J := fun x U => U = h12 ∧ ((x = -1 ∧ ∀ k, k < 8 → wrd tp t ≠ ksb (jci k)) ∨ ∃ k : Fin 8, x = I k.val ∧ wrd tp t = ksb (jci k.val))) S12 Z (i := 18) (by decide) a1 (fun e => ⟨rfl, .inr ⟨⟨1, by decide⟩, rfl, e⟩⟩) (fun hC b1 => ⟨rfl, .inl ⟨rfl, all b4 b2 b0 b1 (oth hC 22 (ne a5 (by decide))) (oth hC 20 (ne a3 (by decide))) (oth hC 8 (ne a6 (by decide))) (oth hC 9 (ne a7 (by decide)))⟩⟩) (fun b1 => ?_)
      refine jn_case (J := fun x U => U = h12 ∧ ((x = -1 ∧ ∀ k, k < 8 → wrd tp t ≠ ksb (jci k)) ∨ ∃ k : Fin 8, x = I k.val ∧ wrd tp t = ksb (jci k.val))) S12 Z (i := 22) (by decide) a5 (fun e => ⟨rfl, .inr ⟨⟨5, by decide⟩, rfl, e⟩⟩) (fun hC b5 => ⟨rfl, .inl ⟨rfl, all b4 b2 b0 b1 b5 (oth hC 20 (ne a3 (by decide))) (oth hC 8 (ne a6 (by decide))) (oth hC 9 (ne a7 (by decide)))⟩⟩) (fun b5 => ?_)
      refine jn_case (J := fun x U => U = h12 ∧ ((x = -1 ∧ ∀ k, k < 8 → wrd tp t ≠ ksb (jci k)) ∨ ∃ k : Fin 8, x = I k.val ∧ wrd tp t = ksb (jci k.val))) S12 Z (i := 20) (by decide) a3 (fun e => ⟨rfl, .inr ⟨⟨3, by decide⟩, rfl, e⟩⟩) (fun hC b3 => ⟨rfl, .inl ⟨rfl, all b4 b2 b0 b1 b5 b3 (oth hC 8 (ne a6 (by decide))) (oth hC 9 (ne a7 (by decide)))⟩⟩) (fun b3 => ?_)
      refine jn_case (J := fun x U => U = h12 ∧ ((x = -1 ∧ ∀ k, k < 8 → wrd tp t ≠ ksb (jci k)) ∨ ∃ k : Fin 8, x = I k.val ∧ wrd tp t = ksb (jci k.val))) S12 Z (i := 8) (by decide) a6 (fun e => ⟨rfl, .inr ⟨⟨6, by decide⟩, rfl, e⟩⟩) (fun hC b6 => ⟨rfl, .inl ⟨rfl, all b4 b2 b0 b1 b5 b3 b6 (oth hC 9 (ne a7 (by decide)))⟩⟩) (fun b6 => ?_)
      refine jn_case (J := fun x U => U = h12 ∧ ((x = -1 ∧ ∀ k, k < 8 → wrd tp t ≠ ksb (jci k)) ∨ ∃ k : Fin 8, x = I k.val ∧ wrd tp t = ksb (jci k.val))) S12 Z (i := 9) (by decide) a7 (fun e => ⟨rfl, .inr ⟨⟨7, by decide⟩, rfl, e⟩⟩) (fun hC b7 => ⟨rfl, .inl ⟨rfl, all b4 b2 b0 b1 b5 b3 b6 b7⟩⟩) (fun b7 => ?_)
      exact ⟨rfl, .inl ⟨rfl, all b4 b2 b0 b1 b5 b3 b6 b7⟩⟩
    · intro x U hh
      obtain ⟨eU, hh⟩ := hh
      rw [eU]
      rcases hh with ⟨ex, hno⟩ | ⟨k, ex, hw⟩
      · rw [ex]
        refine brF (by decide) (brF (by decide) (brF (by decide) (brF (by decide) (brF (by decide) (brF (by decide) (brF (by decide) (brF (by decide) ?_)))))))
        exact out h12 (jnt_none K.T.kk (fun _ _ => hno)) G12 K12
      · have hj := jnt_some K.T.kk e1 hd' hw
        obtain ⟨u5, v5⟩ := huv1 (by rw [hj]; simp)
        have body : ∀ x : Int32, x = I k.val → nn h12 (some q) 3 ∧ cl h12 fun mc ms => wp_X2_reads q (h12.srm mc ms) fun h95 => ∀ h96, h96 = h95.srm (h12.rc - mc) (h12.rs - ms) → nn h96 (some q) 3 ∧ nn h96 (h96.fr 313 q) 1 ∧ ix h96 (h96.fr 100 (adr (h96.fr 313 q))) 45 x ∧ ∀ h4, h4 = h96.srm (h.rc - u) (h.rs - v) → P (h96.ar (adr (h96.fr 100 (adr (h96.fr 313 q)))) (ni x)) h4 := by
          intro x hx
          refine jn_body (Q := fun r h96 => ∀ h4, h4 = h96.srm (h.rc - u) (h.rs - v) → P r h4) K12 k.isLt hx (by omega) (by omega) ?_
          intro h' F' K' _ _ h4 e4
          have c4 : h4.c = h'.c := by rw [e4]; rfl
          have ez : h12.cs (600 + k.val) = h.cs (600 + k.val) := by
            show h12.c.bs.2 _ = h.c.bs.2 _
            rw [G12.bs]
          have nz : h.cs (600 + k.val) ≠ 0 := Z6 k.val k.isLt
          have es : sref (h12.cs (600 + k.val)) = some (h.cs (600 + k.val) - 1) := by
            rw [ez]; unfold sref; rw [if_neg nz]
          rw [es]
          exact h1 k hj h4 (by rw [c4]; exact G12.trans F') (by rw [c4]; exact K') (by rw [e4, u5]; rfl) (by rw [e4, v5]; rfl) _ (by unfold sref; rw [if_neg nz])
        match k, body, ex with
        | ⟨0, _⟩, body, ex =>
          have e9 : x = 0 := ex
          rw [e9]
          exact brT rfl (body 0 rfl)
        | ⟨1, _⟩, body, ex =>
          have e9 : x = 1 := ex
          rw [e9]
          exact brF (by decide) (brT rfl (body 1 rfl))
        | ⟨2, _⟩, body, ex =>
          have e9 : x = 2 := ex
          rw [e9]
          exact brF (by decide) (brF (by decide) (brT rfl (body 2 rfl)))
        | ⟨3, _⟩, body, ex =>
          have e9 : x = 3 := ex
          rw [e9]
          exact brF (by decide) (brF (by decide) (brF (by decide) (brT rfl (body 3 rfl))))
        | ⟨4, _⟩, body, ex =>
          have e9 : x = 4 := ex
          rw [e9]
          exact brF (by decide) (brF (by decide) (brF (by decide) (brF (by decide) (brT rfl (body 4 rfl)))))
        | ⟨5, _⟩, body, ex =>
          have e9 : x = 5 := ex
          rw [e9]
          exact brF (by decide) (brF (by decide) (brF (by decide) (brF (by decide) (brF (by decide) (brT rfl (body 5 rfl))))))
        | ⟨6, _⟩, body, ex =>
          have e9 : x = 6 := ex
          rw [e9]
          exact brF (by decide) (brF (by decide) (brF (by decide) (brF (by decide) (brF (by decide) (brF (by decide) (brT rfl (body 6 rfl)))))))
        | ⟨7, _⟩, body, ex =>
          have e9 : x = 7 := ex
          rw [e9]
          exact brF (by decide) (brF (by decide) (brF (by decide) (brF (by decide) (brF (by decide) (brF (by decide) (brF (by decide) (brT rfl (body 7 rfl))))))))
  by_cases hj : jnt tp t = none
  · exact ⟨0, 0, ⟨Nat.zero_le _, Nat.zero_le _⟩, key 0 0 (fun _ => ⟨rfl, rfl⟩) (fun hh => absurd hj hh) (Nat.zero_le _) (Nat.zero_le _)⟩
  · exact ⟨5, 68, ⟨hc hj, hs hj⟩, key 5 68 (fun hh => absurd hh hj) (fun _ => ⟨rfl, rfl⟩) (hc hj) (hs hj)⟩
end
