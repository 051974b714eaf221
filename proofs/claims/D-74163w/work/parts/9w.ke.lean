/-! plain: ke -/
set_option maxRecDepth 100000
section
variable {h : AH} {lo q o jn tpa : Nat} {tp : Nat → Nat} {n : Nat} {t : Tk}

/-- one case of a name's switch. -/
theorem nm_case {U : AH} {wa wv : Nat} {w : List Nat} (S : StR U.c wa wv w) (Z : CoR U.c) {i j : Nat} (hi : i < 24) (hij : ksb i = kw j) {C M : Int32} (hC : hN (kw j) = C) (hM : M = 0 ∨ M = 1 ∨ M = 2 ∨ M = 3 ∨ M = 4 ∨ M = 5 ∨ M = 6 ∨ M = 7 ∨ M = 8) {Q : Int32 → AH → Prop}
    (h0 : w = kw j → Q 0 U) (h1 : hN w = C → w ≠ kw j → Q 1 U) {B : Prop} (hB : hN w ≠ C → w ≠ kw j → B) :
    ((hN w = C → nn U (some wa) 22 ∧ wp_J2_equals (adr (some wa)) (sref (U.cs i)) (U.srm 0 0) fun r18 h19 => ∀ h20, h20 = h19.srm U.rc U.rs → ∀ m21 : Int32, m21 = (if r18 = 0 then (-1) else M) →
      (((m21 = 0 ∨ m21 = 1 ∨ m21 = 2 ∨ m21 = 3 ∨ m21 = 4 ∨ m21 = 5 ∨ m21 = 6 ∨ m21 = 7 ∨ m21 = 8) → Q 0 h20) ∧ (¬ (m21 = 0 ∨ m21 = 1 ∨ m21 = 2 ∨ m21 = 3 ∨ m21 = 4 ∨ m21 = 5 ∨ m21 = 6 ∨ m21 = 7 ∨ m21 = 8) → Q 1 h20))) ∧ (¬ hN w = C → B)) := by
  refine ⟨fun hh => ?_, fun hh => hB hh (fun e => hh (by rw [e]; exact hC))⟩
  obtain ⟨a, v, e1, e2, _, _⟩ := Z i hi
  rw [show sref (U.cs i) = some a from e1]
  refine ⟨nn_of rfl S.k, ?_⟩
  rw [adr_some]
  refine pc_equals (h := U.srm 0 0) S e2 ?_
  intro h20 e20 m em
  have e20' : h20 = U := by rw [e20]; rfl
  rw [e20']
  by_cases hw : w = ksb i
  · rw [if_pos hw, if_neg (by decide)] at em
    rw [hij] at hw
    refine brT ?_ (h0 hw)
    rw [em]; exact hM
  · rw [if_neg hw, if_pos rfl] at em
    rw [hij] at hw
    refine brF ?_ (h1 hh hw)
    rw [em]; decide
theorem hN_kw : hN (kw 0) = -887523944 ∧ hN (kw 8) = 3357 ∧ hN (kw 3) = 3365 ∧ hN (kw 6) = 107876 ∧ hN (kw 7) = 108114 ∧ hN (kw 5) = 109446 ∧ hN (kw 4) = 110414 ∧ hN (kw 1) = 3449687 ∧ hN (kw 2) = 3512060 := by decide +kernel

/-- with the hash of the word. -/
theorem RdK.hash {c c' : HC} {wa wv : Nat} (K : RdK c lo q o jn tpa tp n t) (w1 : c.fr 305 q = some wa) (F : Fr (WH wa) c c') (S : StR c' wa wv (wrd tp t)) (H : HsR c' wa (wrd tp t)) (hl : c.lo ≤ wa) : RdK c' lo q o jn tpa tp n t ∧ Fr (WG lo q) c c' := by
  have ql := K.R.l
  have n1 : ∀ f a, f ≠ 2202 → f ≠ 2203 → ¬ WH wa f a := fun f a e1 e2 hh => by rcases hh.1 with e | e; exact e1 e; exact e2 e
  refine ⟨⟨K.R.keep F (n1 _ _ (by decide) (by decide)) (n1 _ _ (by decide) (by decide)) (n1 _ _ (by decide) (by decide)) (n1 _ _ (by decide) (by decide)) (n1 _ _ (by decide) (by decide)) (n1 _ _ (by decide) (by decide)) (fun f a hh => by rw [hh.2]; exact hl), K.T.with (fun f h1 h2 h3 h4 => F.fi f q ql (n1 _ _ (by omega) (by omega))) (fun _ => ⟨wa, wv, by rw [F.fr 305 q ql (n1 _ _ (by decide) (by decide))]; exact w1, S, H⟩), ?_⟩, F.mono (fun f a _ hh => ⟨by rw [← K.L, hh.2]; exact hl, .inr hh.1⟩)⟩
  have := K.L
  unfold HC.lo at *
  rw [F.bs]; exact this

theorem g_isName (K : RdK h.c lo q o jn tpa tp n t) {P : Int32 → AH → Prop} (hP : ∀ h', Fr (WG lo q) h.c h'.c → RdK h'.c lo q o jn tpa tp n t → h'.rc = h.rc → h'.rs = h.rs → P (if isNm tp t then 1 else 0) h') :
    cl h fun mc ms => wp_X2_isName q (h.srm mc ms) fun r h3 => ∀ h4, h4 = h3.srm (h.rc - mc) (h.rs - ms) → P r h4 := by
  have hm := K.R.m
  refine ⟨0, 0, ⟨Nat.zero_le _, Nat.zero_le _⟩, ?_⟩
  dsimp only
  unfold wp_X2_isName
  refine ⟨nn_of rfl K.R.k, ?_⟩
  obtain ⟨fr, ht⟩ := K.T.kk
  have tf : t.fr = fr := by rw [ht]; exact tokA_fr fr
  have hle : fr ≤ n := by
    have h1 := tokA_to (tp := tp) (n := n) fr
    rw [← ht] at h1
    have := K.T.l2
    have := h1.1
    omega
  have out : ∀ (b : Int32) (V : AH), V.c = h.c → b = (if isNm tp t then 1 else 0) → ∀ h4, h4 = V.srm (h.rc - 0) (h.rs - 0) → P b h4 := by
    intro b V hV hb h4 e4
    have c4 : h4.c = h.c := by rw [e4]; exact hV
    rw [hb]
    exact hP h4 (by rw [c4]; exact Fr.refl _) (by rw [c4]; exact K) (by rw [e4]; rfl) (by rw [e4]; rfl)
  have f8 : (h.srm 0 0).fi 308 q = if t.kd = 1 then 1 else 0 := K.T.f8
  have f7 : (h.srm 0 0).fi 307 q = if dgt tp n t.fr then 1 else 0 := K.T.f7
  rw [f8, f7]
  by_cases h1 : t.kd = 1
  · rw [if_pos h1]
    refine brF (by decide) (out 0 _ rfl ?_)
    rw [if_neg (by rw [isNm_iff]; rintro ⟨hh, _⟩; omega)]
  rw [if_neg h1]
  refine brT rfl ?_
  by_cases hd : dgt tp n t.fr = true
  · rw [if_pos hd]
    refine brF (by decide) (out 0 _ rfl ?_)
    rw [if_neg]
    rw [isNm_iff]
    rintro ⟨hh, _⟩
    rw [tf] at hd
    rcases tok_cases ht with ⟨_, e⟩ | ⟨_, _, hd2, e⟩ | ⟨_, _, _, e⟩ | ⟨_, _, hd2, e⟩
    · rw [e] at hh; exact absurd (show (0 : Nat) = 2 from hh) (by decide)
    · rw [hd] at hd2; exact absurd hd2 (by decide)
    · rw [e] at hh
      have h9 : (if 4 < eD tp n fr - fr then 1 else 3) = 2 := hh
      split at h9 <;> omega
    · rw [hd] at hd2; exact absurd hd2 (by decide)
  rw [if_neg hd]
  have f1 : (h.srm 0 0).fi 301 q = I fr := by rw [← tf]; exact K.T.f1
  refine brT rfl ?_
  rw [f1]
  refine px_isAt (h := (h.srm 0 0).srm 0 0) (lo := 97) (hi := 122) K.R (by omega) (by decide) (by decide) ?_
  rw [inB_ltr]
  intro h6 e6
  have e6' : h6 = h.srm 0 0 := by rw [e6]; rfl
  rw [e6']
  by_cases hl : ltr tp n fr = true
  rotate_left
  · rw [if_neg hl]
    refine brT rfl (out 0 _ rfl ?_)
    rw [if_neg]
    rw [isNm_iff]
    rintro ⟨hh, _⟩
    rcases tok_cases ht with ⟨_, e⟩ | ⟨_, hl2, _, e⟩ | ⟨_, _, _, e⟩ | ⟨_, _, _, e⟩
    · rw [e] at hh; exact absurd (show (0 : Nat) = 2 from hh) (by decide)
    · exact hl hl2
    · rw [e] at hh
      have h9 : (if 4 < eD tp n fr - fr then 1 else 3) = 2 := hh
      split at h9 <;> omega
    · rw [e] at hh
      have h9 : (if sgn (tp fr) = true then 4 else 1) = 2 := hh
      split at h9 <;> omega
  rw [if_pos hl]
  have k2 : t.kd = 2 := by
    rcases tok_cases ht with ⟨hn, _⟩ | ⟨_, _, _, e⟩ | ⟨_, hl2, _, _⟩ | ⟨_, hl2, _, _⟩
    · rw [ltr_n hn] at hl; exact absurd hl (by decide)
    · rw [e] at h1 ⊢
      have h9 : (if 8 < eL tp n fr - fr then 1 else 2) ≠ 1 := h1
      show (if 8 < eL tp n fr - fr then 1 else 2) = 2
      split at h9
      · exact absurd rfl h9
      · rename_i hc; rw [if_neg hc]
    · rw [hl] at hl2; exact absurd hl2 (by decide)
    · rw [hl] at hl2; exact absurd hl2 (by decide)
  obtain ⟨wa, wv, w1, w2, w3⟩ := K.T.w0 h1
  have w1' : (h.srm 0 0).fr 305 q = some wa := w1
  rw [w1']
  refine brF (by decide) ⟨nn_of rfl K.R.k, nn_of rfl w2.k, 0, 0, ⟨Nat.zero_le _, Nat.zero_le _⟩, ?_⟩
  rw [adr_some]
  refine pc_hashCode (h := (h.srm 0 0).srm 0 0) w2 w3 ?_
  intro h11 F11 S11 H11 _ _ h12 e12
  have c12 : h12.c = h11.c := by rw [e12]; rfl
  have F12 : Fr (WH wa) h.c h12.c := by rw [c12]; exact F11
  have S12 : StR h12.c wa wv (wrd tp t) := by rw [c12]; exact S11
  have H12 : HsR h12.c wa (wrd tp t) := by rw [c12]; exact H11
  obtain ⟨K12, G12⟩ := K.hash w1 F12 S12 H12 w3.b
  have Z := K12.R.z
  have fin : ∀ b : Int32, b = (if isNm tp t then 1 else 0) → ∀ h4, h4 = h12.srm (h.rc - 0) (h.rs - 0) → P b h4 := by
    intro b hb h4 e4
    have c4 : h4.c = h12.c := by rw [e4]; rfl
    rw [hb]
    exact hP h4 (by rw [c4]; exact G12) (by rw [c4]; exact K12) (by rw [e4]; rfl) (by rw [e4]; rfl)
  have no : ∀ j, j < 9 → wrd tp t = kw j → (0 : Int32) = (if isNm tp t then 1 else 0) := by
    intro j hj e
    rw [if_neg]
    rw [isNm_iff]
    rintro ⟨_, hh⟩
    exact hh j hj e
  obtain ⟨a0, a8, a3, a6, a7, a5, a4, a1, a2⟩ := hN_kw
  have yes : (wrd tp t ≠ kw 0 ∧ wrd tp t ≠ kw 8 ∧ wrd tp t ≠ kw 3 ∧ wrd tp t ≠ kw 6 ∧ wrd tp t ≠ kw 7 ∧ wrd tp t ≠ kw 5 ∧ wrd tp t ≠ kw 4 ∧ wrd tp t ≠ kw 1 ∧ wrd tp t ≠ kw 2) → (1 : Int32) = (if isNm tp t then 1 else 0) := by
    rintro ⟨b0, b8, b3, b6, b7, b5, b4, b1, b2⟩
    rw [if_pos]
    rw [isNm_iff]
    refine ⟨k2, fun k hk => ?_⟩
    rcases (show k = 0 ∨ k = 1 ∨ k = 2 ∨ k = 3 ∨ k = 4 ∨ k = 5 ∨ k = 6 ∨ k = 7 ∨ k = 8 by omega) with e | e | e | e | e | e | e | e | e <;> rw [e] <;> assumption
  -- by its hash it can be no other
  have oth : ∀ {C : Int32}, hN (wrd tp t) = C → ∀ j, hN (kw j) ≠ C → wrd tp t ≠ kw j := fun hC j hj e => hj (by rw [← e]; exact hC)
  have ne : ∀ {j : Nat} {C D : Int32}, hN (kw j) = D → D ≠ C → hN (kw j) ≠ C := fun e1 e2 e3 => e2 (e1.symm.trans e3)
  refine nm_case (Q := fun b V => ∀ h4, h4 = V.srm (h.rc - 0) (h.rs - 0) → P b h4) S12 Z (i := 2) (j := 0) (by decide) rfl a0 (by decide) (fun e => fin 0 (no 0 (by decide) e)) (fun hC hw => fin 1 (yes ⟨hw, oth hC 8 (ne a8 (by decide)), oth hC 3 (ne a3 (by decide)), oth hC 6 (ne a6 (by decide)), oth hC 7 (ne a7 (by decide)), oth hC 5 (ne a5 (by decide)), oth hC 4 (ne a4 (by decide)), oth hC 1 (ne a1 (by decide)), oth hC 2 (ne a2 (by decide))⟩)) (fun _ n0 => ?_)
  refine nm_case (Q := fun b V => ∀ h4, h4 = V.srm (h.rc - 0) (h.rs - 0) → P b h4) S12 Z (i := 10) (j := 8) (by decide) rfl a8 (by decide) (fun e => fin 0 (no 8 (by decide) e)) (fun hC hw => fin 1 (yes ⟨n0, hw, oth hC 3 (ne a3 (by decide)), oth hC 6 (ne a6 (by decide)), oth hC 7 (ne a7 (by decide)), oth hC 5 (ne a5 (by decide)), oth hC 4 (ne a4 (by decide)), oth hC 1 (ne a1 (by decide)), oth hC 2 (ne a2 (by decide))⟩)) (fun _ n8 => ?_)
  refine nm_case (Q := fun b V => ∀ h4, h4 = V.srm (h.rc - 0) (h.rs - 0) → P b h4) S12 Z (i := 5) (j := 3) (by decide) rfl a3 (by decide) (fun e => fin 0 (no 3 (by decide) e)) (fun hC hw => fin 1 (yes ⟨n0, n8, hw, oth hC 6 (ne a6 (by decide)), oth hC 7 (ne a7 (by decide)), oth hC 5 (ne a5 (by decide)), oth hC 4 (ne a4 (by decide)), oth hC 1 (ne a1 (by decide)), oth hC 2 (ne a2 (by decide))⟩)) (fun _ n3 => ?_)
  refine nm_case (Q := fun b V => ∀ h4, h4 = V.srm (h.rc - 0) (h.rs - 0) → P b h4) S12 Z (i := 8) (j := 6) (by decide) rfl a6 (by decide) (fun e => fin 0 (no 6 (by decide) e)) (fun hC hw => fin 1 (yes ⟨n0, n8, n3, hw, oth hC 7 (ne a7 (by decide)), oth hC 5 (ne a5 (by decide)), oth hC 4 (ne a4 (by decide)), oth hC 1 (ne a1 (by decide)), oth hC 2 (ne a2 (by decide))⟩)) (fun _ n6 => ?_)
  refine nm_case (Q := fun b V => ∀ h4, h4 = V.srm (h.rc - 0) (h.rs - 0) → P b h4) S12 Z (i := 9) (j := 7) (by decide) rfl a7 (by decide) (fun e => fin 0 (no 7 (by decide) e)) (fun hC hw => fin 1 (yes ⟨n0, n8, n3, n6, hw, oth hC 5 (ne a5 (by decide)), oth hC 4 (ne a4 (by decide)), oth hC 1 (ne a1 (by decide)), oth hC 2 (ne a2 (by decide))⟩)) (fun _ n7 => ?_)
  refine nm_case (Q := fun b V => ∀ h4, h4 = V.srm (h.rc - 0) (h.rs - 0) → P b h4) S12 Z (i := 7) (j := 5) (by decide) rfl a5 (by decide) (fun e => fin 0 (no 5 (by decide) e)) (fun hC hw => fin 1 (yes ⟨n0, n8, n3, n6, n7, hw, oth hC 4 (ne a4 (by decide)), oth hC 1 (ne a1 (by decide)), oth hC 2 (ne a2 (by decide))⟩)) (fun _ n5 => ?_)
  refine nm_case (Q := fun b V => ∀ h4, h4 = V.srm (h.rc - 0) (h.rs - 0) → P b h4) S12 Z (i := 6) (j := 4) (by decide) rfl a4 (by decide) (fun e => fin 0 (no 4 (by decide) e)) (fun hC hw => fin 1 (yes ⟨n0, n8, n3, n6, n7, n5, hw, oth hC 1 (ne a1 (by decide)), oth hC 2 (ne a2 (by decide))⟩)) (fun _ n4 => ?_)
  refine nm_case (Q := fun b V => ∀ h4, h4 = V.srm (h.rc - 0) (h.rs - 0) → P b h4) S12 Z (i := 3) (j := 1) (by decide) rfl a1 (by decide) (fun e => fin 0 (no 1 (by decide) e)) (fun hC hw => fin 1 (yes ⟨n0, n8, n3, n6, n7, n5, n4, hw, oth hC 2 (ne a2 (by decide))⟩)) (fun _ n1 => ?_)
  refine nm_case (Q := fun b V => ∀ h4, h4 = V.srm (h.rc - 0) (h.rs - 0) → P b h4) S12 Z (i := 4) (j := 2) (by decide) rfl a2 (by decide) (fun e => fin 0 (no 2 (by decide) e)) (fun hC hw => fin 1 (yes ⟨n0, n8, n3, n6, n7, n5, n4, n1, hw⟩)) (fun _ n2 => ?_)
  exact fin 1 (yes ⟨n0, n8, n3, n6, n7, n5, n4, n1, n2⟩)

theorem isNm_kd (hh : isNm tp t = true) : t.kd = 2 := (isNm_iff.1 hh).1
/-- a name must be there. -/
theorem g_needsName (K : RdK h.c lo q o jn tpa tp n t) (hc : 1 ≤ h.rc) (hs : 8 ≤ h.rs) {P : AH → Prop} {X : Nat → AH → Prop}
    (h1 : isNm tp t = true → ∀ h', Fr (WG lo q) h.c h'.c → RdK h'.c lo q o jn tpa tp n t → h'.rc = h.rc - 1 → h'.rs = h.rs - 8 → P h') (h0 : isNm tp t = false → ∀ x h', Fr (WG lo q) h.c h'.c → ThR h'.c x (bad t 2) → X x h') :
    cl h fun mc ms => wp_X2_needsName q (h.srm mc ms) (fun h3 => ∀ h4, h4 = h3.srm (h.rc - mc) (h.rs - ms) → P h4) (fun q8 h9 => ∀ h10, h10 = h9.srm (h.rc - mc) (h.rs - ms) → X q8 h10) := by
  refine ⟨1, 8, ⟨hc, hs⟩, ?_⟩
  dsimp only
  unfold wp_X2_needsName
  refine ⟨nn_of rfl K.R.k, ?_⟩
  refine g_isName (h := h.srm 1 8) K ?_
  intro h4 F4 K4 c4 s4
  cases hn : isNm tp t with
  | true =>
    refine brF (by decide) ?_
    intro h5 e5
    have c5 : h5.c = h4.c := by rw [e5]; rfl
    exact h1 hn h5 (by rw [c5]; exact F4) (by rw [c5]; exact K4) (by rw [e5]; rfl) (by rw [e5]; rfl)
  | false =>
    refine brT rfl ⟨nn_of rfl K4.R.k, ?_⟩
    refine g_wrong (h := h4) K4 (k := 2) (by decide) (by rfl) (by rw [c4]; exact Nat.le_refl _) (by rw [s4]; exact Nat.le_refl _) (X := fun x h12 => ∀ h10, h10 = h12.srm (h.rc - 1) (h.rs - 8) → X x h10) ?_
    intro x h' F T h10 e10
    have c10 : h10.c = h'.c := by rw [e10]; rfl
    exact h0 hn x h10 (by rw [c10]; exact F4.trans' F (fun _ _ _ hh => hh.elim)) (by rw [c10]; exact T)

/-- texts in a list: which is the first that is so. -/
def NmL (c : HC) (m : Nat) (x : Nat → Nat) (f : Nat → List Nat) : Prop := ∀ i, i < m → ∃ v, StR c (x i) v (f i)
theorem fdN_none {f : Nat → List Nat} {m : Nat} {w : List Nat} : fdN f m w = none ↔ ∀ j, j < m → f j ≠ w := by
  unfold fdN
  rw [fstN_none]
  constructor
  · intro hh j hj e
    have := hh j hj
    simp [e] at this
  · intro hh j hj
    exact decide_eq_false (hh j hj)
theorem fdN_some {f : Nat → List Nat} {m k : Nat} {w : List Nat} : fdN f m w = some k ↔ k < m ∧ f k = w ∧ ∀ j, j < k → f j ≠ w := by
  unfold fdN
  rw [fstN_some]
  constructor
  · rintro ⟨a, b, c⟩
    exact ⟨a, of_decide_eq_true b, fun j hj e => by have := c j hj; simp [e] at this⟩
  · rintro ⟨a, b, c⟩
    exact ⟨a, decide_eq_true b, fun j hj => decide_eq_false (c j hj)⟩
theorem pc_indexOfS {a d m k : Nat} {x : Nat → Nat} {f : Nat → List Nat} (L : Ls h.c a d m k x) (N : NmL h.c k x f) {wa wv : Nat} {w : List Nat} (S : StR h.c wa wv w) (hk : k ≤ 1000) {Q : Int32 → AH → Prop} (hQ : Q (oI (fdN f k w)) h) : wp_J12_indexOf a (some wa) h Q := by
  have hsz : h.fi 2302 a = I k := L.sz
  have he : h.fr 2301 a = some d := L.e
  have hmb := L.mb
  have hnm := L.nm
  unfold wp_J12_indexOf
  refine ⟨nn_of rfl L.k, ?_⟩
  rw [hsz]
  unfold wp_J12_indexOfRange
  refine ⟨nn_of rfl L.k, brF (by simp) ?_⟩
  have he' : (h.srm 0 0).fr 2301 a = some d := he
  rw [he']
  refine xlp_cnt k (fun i s U => s = I i ∧ U = h.srm 0 0 ∧ ∀ j, j < i → f j ≠ w) ⟨rfl, rfl, fun j hj => absurd hj (Nat.not_lt_zero _)⟩ ?_
  intro i s U K hi hh hK
  obtain ⟨e1, e2, hno⟩ := hh
  rw [e1, e2]
  by_cases ei : i = k
  · subst ei
    refine brT ((I_le (by omega) (by omega)).2 (Nat.le_refl _)) ?_
    intro h4 e4
    have e4' : h4 = h := by rw [e4]; rfl
    rw [e4']
    rw [(fdN_none (f := f) (m := i) (w := w)).2 hno] at hQ
    exact hQ
  have hik : i < k := by omega
  refine brF (fun hh => by have := (I_le (by omega) (by omega)).1 hh; omega) ⟨ix_of rfl (show (h.srm 0 0).kd d = (44, m) from L.dk) (by omega) (by omega), ?_⟩
  rw [adr_some d, I_ni (by omega), show (h.srm 0 0).ar d i = some (x i) from L.el i hik]
  obtain ⟨v, Sv⟩ := N i hik
  refine ⟨fun r V => r = (if w = f i then 1 else 0) ∧ V = h.srm 0 0, .inl ⟨nn_of rfl S.k, ?_⟩, ?_⟩
  · rw [adr_some]
    refine pc_equals (h := (h.srm 0 0).srm 0 0) S Sv ?_
    intro h14 e14
    exact ⟨rfl, by rw [e14]; rfl⟩
  · intro r V hh
    rw [hh.1, hh.2]
    by_cases hw : w = f i
    · rw [if_pos hw]
      refine brF (by decide) ?_
      intro h4 e4
      have e4' : h4 = h := by rw [e4]; rfl
      rw [e4']
      rw [(fdN_some (f := f) (m := k) (w := w) (k := i)).2 ⟨hik, hw.symm, hno⟩] at hQ
      exact hQ
    · rw [if_neg hw]
      refine brT rfl ?_
      rw [show I i + 1 = I (i + 1) from I_add _ 1]
      refine hK _ _ hik ⟨rfl, rfl, fun j hj e => ?_⟩
      by_cases ej : j = i
      · rw [ej] at e; exact hw e.symm
      · exact hno j (by omega) e
theorem pc_containsS {a d m k : Nat} {x : Nat → Nat} {f : Nat → List Nat} (L : Ls h.c a d m k x) (N : NmL h.c k x f) {wa wv : Nat} {w : List Nat} (S : StR h.c wa wv w) (hk : k ≤ 1000) {Q : Int32 → AH → Prop} (hQ : Q (if (fdN f k w).isSome then 1 else 0) h) : wp_J12_contains a (some wa) h Q := by
  unfold wp_J12_contains
  refine ⟨nn_of rfl L.k, ?_⟩
  refine pc_indexOfS (h := h.srm 0 0) L N S hk ?_
  intro h4 e4
  have e4' : h4 = h := by rw [e4]; rfl
  rw [e4']
  intro m5 e5
  cases hf : fdN f k w with
  | none =>
    rw [hf] at hQ e5
    have : m5 = 0 := by rw [e5]; rfl
    rw [this]; exact ⟨.inl rfl, hQ⟩
  | some i =>
    rw [hf] at hQ e5
    have hi := (fdN_some.1 hf).1
    have : m5 = 1 := by
      rw [e5]
      show (if I i < 0 then (0 : Int32) else 1) = 1
      rw [if_neg (I_nonneg (by omega))]
    rw [this]; exact ⟨.inr rfl, hQ⟩
end
