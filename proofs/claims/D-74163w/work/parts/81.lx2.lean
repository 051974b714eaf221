/-! plain: lx2 -/
set_option maxRecDepth 100000
section
variable {T : TS} {tp : Nat → Nat} {n : Nat}

abbrev Jw (n : Nat) : Int64 := Int64.ofNat n
theorem J_eq {a b : Nat} (ha : a < 9223372036854775808) (hb : b < 9223372036854775808) : Jw a = Jw b ↔ a = b := by
  constructor
  · intro h
    have := congrArg Int64.toInt h
    rw [Int64.toInt_ofNat_of_lt ha, Int64.toInt_ofNat_of_lt hb] at this
    omega
  · intro h; rw [h]
theorem J_of {c : Nat} (hc : c < 2147483648) : Int32.toInt64 (I c) = Jw c := by
  apply Int64.toInt_inj.1
  rw [Int32.toInt_toInt64, I_toInt hc, Int64.toInt_ofNat_of_lt (by omega)]
theorem J_step {v c : Nat} (hc : 96 ≤ c) (hc2 : c < 1000) : ((27 * Jw v) + Int32.toInt64 (I c)) - 96 = Jw (27 * v + (c - 96)) := by
  rw [J_of (by omega)]
  have e1 : (27 : Int64) = Jw 27 := rfl
  have e2 : (96 : Int64) = Jw 96 := rfl
  rw [e1, e2]
  show Int64.ofNat 27 * Int64.ofNat v + Int64.ofNat c - Int64.ofNat 96 = _
  rw [← Int64.ofNat_mul, ← Int64.ofNat_add, ← Int64.ofNat_sub _ _ (by omega)]
  congr 1
  omega

/-- a word as a number. -/
def cdR : List Nat → Nat
  | [] => 0
  | b :: l => 27 * cdR l + (b - 96)
def cdW (l : List Nat) : Nat := cdR l.reverse
def lts (l : List Nat) : Prop := ∀ b, b ∈ l → 97 ≤ b ∧ b ≤ 122
theorem cdR_inj : ∀ (l m : List Nat), lts l → lts m → cdR l = cdR m → l = m
  | [], [], _, _, _ => rfl
  | [], b :: m, _, hm, h => by
    have := hm b List.mem_cons_self
    have h' : 0 = 27 * cdR m + (b - 96) := h
    omega
  | b :: l, [], hl, _, h => by
    have := hl b List.mem_cons_self
    have h' : 27 * cdR l + (b - 96) = 0 := h
    omega
  | b :: l, c :: m, hl, hm, h => by
    have h1 := hl b List.mem_cons_self
    have h2 := hm c List.mem_cons_self
    have h' : 27 * cdR l + (b - 96) = 27 * cdR m + (c - 96) := h
    have e1 : b = c := by omega
    have e2 : cdR l = cdR m := by omega
    rw [e1, cdR_inj l m (fun x hx => hl x (List.mem_cons_of_mem _ hx)) (fun x hx => hm x (List.mem_cons_of_mem _ hx)) e2]
theorem cdW_inj {l m : List Nat} (hl : lts l) (hm : lts m) (h : cdW l = cdW m) : l = m := by
  have := cdR_inj _ _ (fun b hb => hl b (List.mem_reverse.1 hb)) (fun b hb => hm b (List.mem_reverse.1 hb)) h
  have := congrArg List.reverse this
  rwa [List.reverse_reverse, List.reverse_reverse] at this
theorem cdR_lt : ∀ (l : List Nat), lts l → cdR l < 27 ^ l.length
  | [], _ => by decide
  | b :: l, h => by
    have h1 := h b List.mem_cons_self
    have ih := cdR_lt l (fun x hx => h x (List.mem_cons_of_mem _ hx))
    show 27 * cdR l + (b - 96) < 27 ^ (l.length + 1)
    rw [Nat.pow_succ]
    omega
theorem cdW_lt {l : List Nat} (h : lts l) (hn : l.length ≤ 8) : cdW l < 9223372036854775808 := by
  have h1 := cdR_lt l.reverse (fun b hb => h b (List.mem_reverse.1 hb))
  rw [List.length_reverse] at h1
  have h2 : 27 ^ l.length ≤ 27 ^ 8 := Nat.pow_le_pow_right (by decide) hn
  have h3 : (27 : Nat) ^ 8 < 9223372036854775808 := by decide
  show cdR l.reverse < _
  omega
theorem cdW_snoc (l : List Nat) (b : Nat) : cdW (l ++ [b]) = 27 * cdW l + (b - 96) := by
  unfold cdW
  rw [List.reverse_append]
  rfl
/-- bytes from p on. -/
def bys (tp : Nat → Nat) (p k : Nat) : List Nat := (List.range k).map (fun i => tp (p + i))
theorem bys_succ (p k : Nat) : bys tp p (k + 1) = bys tp p k ++ [tp (p + k)] := by
  unfold bys
  rw [List.range_succ, List.map_append]
  rfl
theorem bys_len (p k : Nat) : (bys tp p k).length = k := by unfold bys; simp
theorem bys_mem {p k b : Nat} : b ∈ bys tp p k ↔ ∃ i, i < k ∧ tp (p + i) = b := by unfold bys; simp
theorem wrd_bys (t : Tk) : wrd tp t = bys tp t.fr (t.to - t.fr) := rfl
/-- a token that is a word is of letters, not more than eight. -/
theorem tok_word {fr : Nat} (h : (tokA tp n fr).kd = 2) : lts (wrd tp (tokA tp n fr)) ∧ (wrd tp (tokA tp n fr)).length ≤ 8 ∧ ltr tp n fr = true ∧ (tokA tp n fr).to = eL tp n fr := by
  have hf := tokA_fr (tp := tp) (n := n) fr
  unfold tokA at h
  by_cases h0 : fr < n
  · rw [if_pos h0] at h
    by_cases hl : ltr tp n fr = true
    · have e : tokA tp n fr = (fr, eL tp n fr, if 8 < eL tp n fr - fr then 1 else 2, 0, 0) := by unfold tokA; rw [if_pos h0, if_pos hl]
      have et : (tokA tp n fr).to = eL tp n fr := by rw [e]; rfl
      rw [if_pos hl] at h
      have h' : (if 8 < eL tp n fr - fr then 1 else 2) = 2 := h
      have h8 : ¬ 8 < eL tp n fr - fr := fun hh => by rw [if_pos hh] at h'; omega
      rw [wrd_bys, hf, et, bys_len]
      refine ⟨fun b hb => ?_, by omega, hl, rfl⟩
      obtain ⟨i, hi, rfl⟩ := bys_mem.1 hb
      exact (ltr_iff.1 ((eL_ok (tp := tp) (n := n) fr).2.1 (fr + i) (by omega) (by omega))).2
    · rw [if_neg hl] at h
      exfalso
      revert h
      by_cases hd : dgt tp n fr = true
      · rw [if_pos hd]
        show (if 4 < eD tp n fr - fr then 1 else 3) = 2 → False
        split <;> omega
      · rw [if_neg hd]
        show (if sgn (tp fr) = true then 4 else 1) = 2 → False
        split <;> omega
  · rw [if_neg h0] at h
    exact absurd (show (0 : Nat) = 2 from h) (by decide)

/-- what is changed, but the word. -/
def Tcw (A S L : List Nat) (T U : TS) : Prop :=
  (∀ j, j ∉ A → U.a j = T.a j) ∧
  (∀ F, F ∉ S → U.s F = T.s F) ∧
  (∀ j, j ∉ L → U.l j = T.l j)
theorem Tcw.a {A S L : List Nat} {T U : TS} (h9 : Tcw A S L T U) : ∀ j, j ∉ A → U.a j = T.a j := h9.1
theorem Tcw.s {A S L : List Nat} {T U : TS} (h9 : Tcw A S L T U) : ∀ F, F ∉ S → U.s F = T.s F := h9.2.1
theorem Tcw.l {A S L : List Nat} {T U : TS} (h9 : Tcw A S L T U) : ∀ j, j ∉ L → U.l j = T.l j := h9.2.2
theorem Tcw.refl {A S L : List Nat} (T : TS) : Tcw A S L T T := ⟨fun _ _ => rfl, fun _ _ => rfl, fun _ _ => rfl⟩
theorem Tcw.trans {A S L : List Nat} {T U V : TS} (h : Tcw A S L T U) (g : Tcw A S L U V) : Tcw A S L T V :=
  ⟨fun j hj => (g.a j hj).trans (h.a j hj), fun j hj => (g.s j hj).trans (h.s j hj), fun j hj => (g.l j hj).trans (h.l j hj)⟩
theorem Tcw.mono {A S L A' S' L' : List Nat} {T U : TS} (h : Tcw A S L T U) (hA : ∀ j, j ∈ A → j ∈ A') (hS : ∀ j, j ∈ S → j ∈ S') (hL : ∀ j, j ∈ L → j ∈ L') : Tcw A' S' L' T U :=
  ⟨fun j hj => h.a j (fun hh => hj (hA j hh)), fun j hj => h.s j (fun hh => hj (hS j hh)), fun j hj => h.l j (fun hh => hj (hL j hh))⟩
theorem Tcw.sa {A S L : List Nat} {T U : TS} (h : Tcw A S L T U) {j : Nat} (hj : j ∈ A) (i v) : Tcw A S L T (U.sa j i v) :=
  ⟨fun i' hi => by
    have : i' ≠ j := fun e => hi (e ▸ hj)
    rw [sa_off _ this]; exact h.a i' hi, h.s, h.l⟩
theorem Tcw.ss {A S L : List Nat} {T U : TS} (h : Tcw A S L T U) {j : Nat} (hj : j ∈ S) (v) : Tcw A S L T (U.ss j v) :=
  ⟨h.a, fun i hi => by
    have : i ≠ j := fun e => hi (e ▸ hj)
    rw [ss_s, if_neg this]; exact h.s i hi, h.l⟩
theorem Tcw.sw {A S L : List Nat} {T U : TS} (h : Tcw A S L T U) (j v) : Tcw A S L T (U.sw j v) := ⟨h.a, h.s, h.l⟩
theorem sl_at (T : TS) (j i : Nat) (v : Int64) : (T.sl j i v).l j = updN (T.l j) i v := by rw [sl_wl, wl_l, if_pos rfl]
theorem sl_off (T : TS) {j k : Nat} (h : k ≠ j) (i : Nat) (v : Int64) : (T.sl j i v).l k = T.l k := by rw [sl_wl, wl_l, if_neg h]
theorem Tcw.sl {A S L : List Nat} {T U : TS} (h : Tcw A S L T U) {j : Nat} (hj : j ∈ L) (i v) : Tcw A S L T (U.sl j i v) :=
  ⟨h.a, h.s, fun i' hi => by
    have : i' ≠ j := fun e => hi (e ▸ hj)
    rw [sl_off _ this]; exact h.l i' hi⟩

/-- the tape that is read. -/
def TwP (T : TS) (tp : Nat → Nat) (n : Nat) : Prop :=
  (T.s 210 = I n) ∧
  (n ≤ 1000) ∧
  (∀ k, k < n → T.a 0 k = I (tp k)) ∧
  (∀ k, k < n → tp k < 256) ∧
  (T.s 216 = 0) ∧
  (T.s 217 = -1)
theorem TwP.z {T : TS} {tp : Nat → Nat} {n : Nat} (h9 : TwP T tp n) : T.s 210 = I n := h9.1
theorem TwP.m {T : TS} {tp : Nat → Nat} {n : Nat} (h9 : TwP T tp n) : n ≤ 1000 := h9.2.1
theorem TwP.t {T : TS} {tp : Nat → Nat} {n : Nat} (h9 : TwP T tp n) : ∀ k, k < n → T.a 0 k = I (tp k) := h9.2.2.1
theorem TwP.b {T : TS} {tp : Nat → Nat} {n : Nat} (h9 : TwP T tp n) : ∀ k, k < n → tp k < 256 := h9.2.2.2.1
theorem TwP.q0 {T : TS} {tp : Nat → Nat} {n : Nat} (h9 : TwP T tp n) : T.s 216 = 0 := h9.2.2.2.2.1
theorem TwP.q1 {T : TS} {tp : Nat → Nat} {n : Nat} (h9 : TwP T tp n) : T.s 217 = -1 := h9.2.2.2.2.2
theorem TwP.keep {A S L : List Nat} {U : TS} (P : TwP T tp n) (F : Tcw A S L T U) (h1 : 0 ∉ A) (h2 : ∀ j, j ∈ [210, 216, 217] → j ∉ S) : TwP U tp n :=
  ⟨(F.s _ (h2 _ (by decide))).trans P.z, P.m, by rw [F.a _ h1]; exact P.t, P.b, (F.s _ (h2 _ (by decide))).trans P.q0, (F.s _ (h2 _ (by decide))).trans P.q1⟩
/-- the token there. -/
def TwT (T : TS) (tp : Nat → Nat) (n : Nat) (t : Tk) : Prop :=
  (TwP T tp n) ∧
  (T.s 211 = I t.fr) ∧
  (T.s 212 = I t.to) ∧
  (T.s 213 = I t.kd) ∧
  (t.kd = 3 → T.s 214 = I t.nu) ∧
  (t.kd = 4 → T.s 215 = I t.sg) ∧
  (t.kd = 2 → T.w 218 = Jw (cdW (wrd tp t))) ∧
  (t.fr ≤ t.to) ∧
  (t.to ≤ n) ∧
  (∃ fr, t = tokA tp n fr)
theorem TwT.p {T : TS} {tp : Nat → Nat} {n : Nat} {t : Tk} (h9 : TwT T tp n t) : TwP T tp n := h9.1
theorem TwT.fr {T : TS} {tp : Nat → Nat} {n : Nat} {t : Tk} (h9 : TwT T tp n t) : T.s 211 = I t.fr := h9.2.1
theorem TwT.to {T : TS} {tp : Nat → Nat} {n : Nat} {t : Tk} (h9 : TwT T tp n t) : T.s 212 = I t.to := h9.2.2.1
theorem TwT.kd {T : TS} {tp : Nat → Nat} {n : Nat} {t : Tk} (h9 : TwT T tp n t) : T.s 213 = I t.kd := h9.2.2.2.1
theorem TwT.nu {T : TS} {tp : Nat → Nat} {n : Nat} {t : Tk} (h9 : TwT T tp n t) : t.kd = 3 → T.s 214 = I t.nu := h9.2.2.2.2.1
theorem TwT.sg {T : TS} {tp : Nat → Nat} {n : Nat} {t : Tk} (h9 : TwT T tp n t) : t.kd = 4 → T.s 215 = I t.sg := h9.2.2.2.2.2.1
theorem TwT.wd {T : TS} {tp : Nat → Nat} {n : Nat} {t : Tk} (h9 : TwT T tp n t) : t.kd = 2 → T.w 218 = Jw (cdW (wrd tp t)) := h9.2.2.2.2.2.2.1
theorem TwT.l1 {T : TS} {tp : Nat → Nat} {n : Nat} {t : Tk} (h9 : TwT T tp n t) : t.fr ≤ t.to := h9.2.2.2.2.2.2.2.1
theorem TwT.l2 {T : TS} {tp : Nat → Nat} {n : Nat} {t : Tk} (h9 : TwT T tp n t) : t.to ≤ n := h9.2.2.2.2.2.2.2.2.1
theorem TwT.k {T : TS} {tp : Nat → Nat} {n : Nat} {t : Tk} (h9 : TwT T tp n t) : ∃ fr, t = tokA tp n fr := h9.2.2.2.2.2.2.2.2.2

def bv (tp : Nat → Nat) (n k : Nat) : Int32 := if k < n then I (tp k) else -1
theorem pt_byteAt (P : TwP T tp n) {k : Nat} (hk : k ≤ n) {Q : Int32 → TS → Prop} (h : Q (bv tp n k) T) : wp_X1_byteAt (I k) T Q := by
  have hm := P.m
  unfold wp_X1_byteAt
  rw [P.z]
  unfold bv at h
  by_cases hl : k < n
  · rw [if_pos hl] at h
    refine brF (by (first | omega | ((try simp (disch := omega) only [L_le, le_L, L_lt, lt_L, eq_L, L_eq, I_le, I_lt, I_eq, I_ni, add_L, L_add, I_add, mul_L, L_mul, I_mul, sub_L, L_sub, I_sub, div_L, rem_L]); done) | ((try simp (disch := omega) only [L_le, le_L, L_lt, lt_L, eq_L, L_eq, I_le, I_lt, I_eq, I_ni, add_L, L_add, I_add, mul_L, L_mul, I_mul, sub_L, L_sub, I_sub, div_L, rem_L]); omega))) ⟨tix_I rfl (by show _ < 1000; omega) (by decide), ?_⟩
    rw [I_ni (by omega), P.t k hl]
    exact h
  · rw [if_neg hl] at h
    exact brT (by (first | omega | ((try simp (disch := omega) only [L_le, le_L, L_lt, lt_L, eq_L, L_eq, I_le, I_lt, I_eq, I_ni, add_L, L_add, I_add, mul_L, L_mul, I_mul, sub_L, L_sub, I_sub, div_L, rem_L]); done) | ((try simp (disch := omega) only [L_le, le_L, L_lt, lt_L, eq_L, L_eq, I_le, I_lt, I_eq, I_ni, add_L, L_add, I_add, mul_L, L_mul, I_mul, sub_L, L_sub, I_sub, div_L, rem_L]); omega))) h
theorem bv_eq (P : TwP T tp n) {k c : Nat} (hc : c < 256) : bv tp n k = I c ↔ k < n ∧ tp k = c := by
  unfold bv
  by_cases hl : k < n
  · rw [if_pos hl]
    have := P.b k hl
    rw [I_eq (by omega) (by omega)]
    exact ⟨fun hh => ⟨hl, hh⟩, fun hh => hh.2⟩
  · rw [if_neg hl]
    exact ⟨fun hh => absurd hh.symm (I_neg1_ne (by omega)), fun hh => absurd hh.1 hl⟩
theorem neg1_lt {c : Nat} (hc : c < 2147483648) : (-1 : Int32) < I c := by
  apply Int32.lt_iff_toInt_lt.2
  rw [I_toInt hc]
  have e2 : (-1 : Int32).toInt = -1 := by decide
  omega
theorem pt_isLetter (P : TwP T tp n) {k : Nat} {U : TS} {Q : Int32 → TS → Prop} (h : Q (if ltr tp n k then 1 else 0) U) : wp_X1_isLetter (bv tp n k) U Q := by
  intro m hm
  have : m = if ltr tp n k then 1 else 0 := by
    rw [hm]
    unfold bv
    by_cases hl : k < n
    · rw [if_pos hl]
      have hb := P.b k hl
      by_cases h1 : tp k < 97
      · rw [if_pos ((lt_L 97 (by decide) (by omega)).2 h1), if_neg (fun hh => by have := ltr_iff.1 hh; omega)]
      · rw [if_neg (fun hh => h1 ((lt_L 97 (by decide) (by omega)).1 hh))]
        by_cases h2 : 122 < tp k
        · rw [if_pos ((L_lt 122 (by decide) (by omega)).2 h2), if_neg (fun hh => by have := ltr_iff.1 hh; omega)]
        · rw [if_neg (fun hh => h2 ((L_lt 122 (by decide) (by omega)).1 hh)), if_pos (ltr_iff.2 ⟨hl, by omega, by omega⟩)]
    · rw [if_neg hl, if_pos (show (-1 : Int32) < 97 by decide), if_neg (fun hh => hl (ltr_iff.1 hh).1)]
  rw [this]
  refine ⟨?_, h⟩
  by_cases hb : ltr tp n k = true <;> simp [bz, hb]
theorem pt_isDigit (P : TwP T tp n) {k : Nat} {U : TS} {Q : Int32 → TS → Prop} (h : Q (if dgt tp n k then 1 else 0) U) : wp_X1_isDigit (bv tp n k) U Q := by
  intro m hm
  have : m = if dgt tp n k then 1 else 0 := by
    rw [hm]
    unfold bv
    by_cases hl : k < n
    · rw [if_pos hl]
      have hb := P.b k hl
      by_cases h1 : tp k < 48
      · rw [if_pos ((lt_L 48 (by decide) (by omega)).2 h1), if_neg (fun hh => by have := dgt_iff.1 hh; omega)]
      · rw [if_neg (fun hh => h1 ((lt_L 48 (by decide) (by omega)).1 hh))]
        by_cases h2 : 57 < tp k
        · rw [if_pos ((L_lt 57 (by decide) (by omega)).2 h2), if_neg (fun hh => by have := dgt_iff.1 hh; omega)]
        · rw [if_neg (fun hh => h2 ((L_lt 57 (by decide) (by omega)).1 hh)), if_pos (dgt_iff.2 ⟨hl, by omega, by omega⟩)]
    · rw [if_neg hl, if_pos (show (-1 : Int32) < 48 by decide), if_neg (fun hh => hl (dgt_iff.1 hh).1)]
  rw [this]
  refine ⟨?_, h⟩
  by_cases hb : dgt tp n k = true <;> simp [bz, hb]
theorem pt_isKnownSign {c : Nat} (hc : c < 256) {Q : Int32 → TS → Prop} (h : Q (if sgn c then 1 else 0) T) : wp_X1_isKnownSign (I c) T Q := by
  intro m hm
  have : m = if sgn c then 1 else 0 := by
    rw [hm]
    have q59 : I c = 59 ↔ c = 59 := eq_L 59 (by decide) (by omega); have q58 : I c = 58 ↔ c = 58 := eq_L 58 (by decide) (by omega); have q44 : I c = 44 ↔ c = 44 := eq_L 44 (by decide) (by omega); have q46 : I c = 46 ↔ c = 46 := eq_L 46 (by decide) (by omega); have q61 : I c = 61 ↔ c = 61 := eq_L 61 (by decide) (by omega); have q43 : I c = 43 ↔ c = 43 := eq_L 43 (by decide) (by omega)
    have q45 : I c = 45 ↔ c = 45 := eq_L 45 (by decide) (by omega); have q42 : I c = 42 ↔ c = 42 := eq_L 42 (by decide) (by omega); have q124 : I c = 124 ↔ c = 124 := eq_L 124 (by decide) (by omega); have q38 : I c = 38 ↔ c = 38 := eq_L 38 (by decide) (by omega); have q60 : I c = 60 ↔ c = 60 := eq_L 60 (by decide) (by omega); have q40 : I c = 40 ↔ c = 40 := eq_L 40 (by decide) (by omega); have q41 : I c = 41 ↔ c = 41 := eq_L 41 (by decide) (by omega)
    unfold sgn
    by_cases h59 : c = 59
    · rw [if_pos (q59.2 h59)]; simp [h59]
    rw [if_neg (fun hh => h59 (q59.1 hh))]
    by_cases h58 : c = 58
    · rw [if_pos (q58.2 h58)]; simp [h58]
    rw [if_neg (fun hh => h58 (q58.1 hh))]
    by_cases h44 : c = 44
    · rw [if_pos (q44.2 h44)]; simp [h44]
    rw [if_neg (fun hh => h44 (q44.1 hh))]
    by_cases h46 : c = 46
    · rw [if_pos (q46.2 h46)]; simp [h46]
    rw [if_neg (fun hh => h46 (q46.1 hh))]
    by_cases h61 : c = 61
    · rw [if_pos (q61.2 h61)]; simp [h61]
    rw [if_neg (fun hh => h61 (q61.1 hh))]
    by_cases h43 : c = 43
    · rw [if_pos (q43.2 h43)]; simp [h43]
    rw [if_neg (fun hh => h43 (q43.1 hh))]
    by_cases h45 : c = 45
    · rw [if_pos (q45.2 h45)]; simp [h45]
    rw [if_neg (fun hh => h45 (q45.1 hh))]
    by_cases h42 : c = 42
    · rw [if_pos (q42.2 h42)]; simp [h42]
    rw [if_neg (fun hh => h42 (q42.1 hh))]
    by_cases h124 : c = 124
    · rw [if_pos (q124.2 h124)]; simp [h124]
    rw [if_neg (fun hh => h124 (q124.1 hh))]
    by_cases h38 : c = 38
    · rw [if_pos (q38.2 h38)]; simp [h38]
    rw [if_neg (fun hh => h38 (q38.1 hh))]
    by_cases h60 : c = 60
    · rw [if_pos (q60.2 h60)]; simp [h60]
    rw [if_neg (fun hh => h60 (q60.1 hh))]
    by_cases h40 : c = 40
    · rw [if_pos (q40.2 h40)]; simp [h40]
    rw [if_neg (fun hh => h40 (q40.1 hh))]
    by_cases h41 : c = 41
    · rw [if_pos (q41.2 h41)]; simp [h41]
    rw [if_neg (fun hh => h41 (q41.1 hh))]
    simp [h59, h58, h44, h46, h61, h43, h45, h42, h124, h38, h60, h40, h41]
  rw [this]
  refine ⟨?_, h⟩
  by_cases hb : sgn c = true <;> simp [bz, hb]

theorem nmv_le (p : Nat) : ∀ k, (∀ i, i < k → tp (p + i) ≤ 57) → nmv tp p k < 10 ^ k
  | 0, _ => by show 0 < 1; decide
  | k + 1, h => by
    have ih := nmv_le p k (fun i hi => h i (by omega))
    have := h k (by omega)
    show 10 * nmv tp p k + (tp (p + k) - 48) < 10 ^ (k + 1)
    rw [Nat.pow_succ]
    omega

theorem pt_go {p : Nat} (P : TwP T tp n) (hp : T.s 212 = I p) (hpn : p ≤ n) {Q : TS → Prop} (h : ∀ U, Tcw [] [211, 212, 213, 214, 215] [] T U → TwT U tp n (tok tp n p) → Q U) : wp_X1_go T Q := by
  have hm := P.m
  unfold wp_X1_go
  refine tlp_cnt (n - p) (fun k s U => Tcw [] [211, 212, 213, 214, 215] [] T U ∧ U.s 212 = I (p + k) ∧ ∀ j, p ≤ j → j < p + k → spc tp n j = true) ⟨Tcw.refl T, hp, fun j h1 h2 => by omega⟩ ?_
  intro k s U K hk hh hK
  obtain ⟨F, e, hsp⟩ := hh
  have PU := P.keep F (by decide) (by decide)
  rw [e]
  have hkn : p + k ≤ n := by omega
  have inc : spc tp n (p + k) = true → K () (U.ss 212 (I (p + k) + 1)) := fun hs => by
    have := (spc_iff.1 hs).1
    refine hK _ _ (by omega) ⟨F.ss (by decide) _, ?_, fun j h1 h2 => ?_⟩
    · rw [ss_s, if_pos rfl]
      (try simp (disch := omega) only [L_le, le_L, L_lt, lt_L, eq_L, L_eq, I_le, I_lt, I_eq, I_ni, add_L, L_add, I_add, mul_L, L_mul, I_mul, sub_L, L_sub, I_sub, div_L, rem_L])
      rw [Nat.add_assoc]
    · by_cases ej : j = p + k
      · rw [ej]; exact hs
      · exact hsp j h1 (by omega)
  refine pt_byteAt PU hkn ?_
  by_cases h32 : p + k < n ∧ tp (p + k) = 32
  · refine brT ((bv_eq PU (by decide)).2 h32) ?_
    rintro _ rfl
    rw [e]
    exact inc (spc_iff.2 ⟨h32.1, .inl h32.2⟩)
  refine brF (fun hh => h32 ((bv_eq PU (c := 32) (by decide)).1 hh)) ?_
  rw [e]
  refine pt_byteAt PU hkn ?_
  by_cases h10 : p + k < n ∧ tp (p + k) = 10
  · refine brT ((bv_eq PU (by decide)).2 h10) ?_
    rintro _ rfl
    rw [e]
    exact inc (spc_iff.2 ⟨h10.1, .inr h10.2⟩)
  refine brF (fun hh => h10 ((bv_eq PU (c := 10) (by decide)).1 hh)) ?_
  clear inc hK K
  have hns : spc tp n (p + k) = false := by
    cases hs : spc tp n (p + k) with
    | false => rfl
    | true =>
      rcases (spc_iff.1 hs).2 with h9 | h9
      · exact absurd ⟨(spc_iff.1 hs).1, h9⟩ h32
      · exact absurd ⟨(spc_iff.1 hs).1, h9⟩ h10
  have hfr : eS tp n p = p + k := (eS_ok p).uniq ⟨by omega, hsp, hns⟩
  obtain ⟨fr, hfr2⟩ : ∃ fr, p + k = fr := ⟨_, rfl⟩
  rw [hfr2] at hfr hkn e
  have htk : tok tp n p = tokA tp n fr := by unfold tok; rw [hfr]
  rw [htk] at h
  clear h32 h10 hns hsp hfr hfr2 htk hk k
  intro U1 hU1
  rw [e] at hU1
  have F1 : Tcw [] [211, 212, 213, 214, 215] [] T U1 := by rw [hU1]; exact F.ss (by decide) _
  have s1 : U1.s 211 = I fr := by rw [hU1, ss_s, if_pos rfl]
  have s2 : U1.s 212 = I fr := by rw [hU1, ss_s, if_neg (by decide)]; exact e
  have P1 := P.keep F1 (by decide) (by decide)
  clear hU1 F e PU U
  have hto := tokA_to (tp := tp) (n := n) fr
  have hff := tokA_fr (tp := tp) (n := n) fr
  rw [s2]
  refine pt_byteAt P1 hkn ?_
  by_cases h0 : fr < n
  rotate_left
  · -- the end
    have eb : bv tp n fr = -1 := by unfold bv; rw [if_neg h0]
    refine brT eb ?_
    intro U2 hU2
    have et : tokA tp n fr = (fr, fr, 0, 0, 0) := by unfold tokA; rw [if_neg h0]
    have F2 : Tcw [] [211, 212, 213, 214, 215] [] T U2 := by rw [hU2]; exact F1.ss (by decide) _
    refine h U2 F2 ⟨P.keep F2 (by decide) (by decide), ?_, ?_, ?_, ?_, ?_, ?_, ?_, ?_, fr, rfl⟩
    · rw [hff, hU2, ss_s, if_neg (by decide)]; exact s1
    · rw [et, hU2, ss_s, if_neg (by decide)]; exact s2
    · rw [et, hU2, ss_s, if_pos rfl]; rfl
    · intro hh; rw [et] at hh; exact absurd hh (Nat.ne_of_beq_eq_false rfl)
    · intro hh; rw [et] at hh; exact absurd hh (Nat.ne_of_beq_eq_false rfl)
    · intro hh; rw [et] at hh; exact absurd hh (Nat.ne_of_beq_eq_false rfl)
    · rw [hff]; exact hto.1
    · rw [et]; exact hkn
  have hb := P.b fr h0
  have eb : bv tp n fr = I (tp fr) := by unfold bv; rw [if_pos h0]
  refine brF (by rw [eb]; exact I_neg1_ne (by omega)) ?_
  refine pt_isLetter P1 ?_
  by_cases hl : ltr tp n fr = true
  · -- a word
    rw [if_pos hl]
    refine brF (by decide) ?_
    intro U2 hU2
    have hgt := eL_gt hl
    have et : tokA tp n fr = (fr, eL tp n fr, if 8 < eL tp n fr - fr then 1 else 2, 0, 0) := by unfold tokA; rw [if_pos h0, if_pos hl]
    refine tlp_cnt (eL tp n fr - fr) (fun k s V => Tcw [] [211, 212, 213, 214, 215] [] T V ∧ V.s 211 = I fr ∧ V.s 212 = I (fr + k) ∧ V.w 218 = Jw (cdW (bys tp fr (min 8 k)))) ⟨by rw [hU2]; exact F1.sw _ _, by rw [hU2]; exact s1, by rw [hU2]; exact s2, by rw [hU2, sw_w, if_pos rfl]; rfl⟩ ?_
    clear hU2 U2
    intro k s V K hk hh hK
    obtain ⟨F2, e1, e2, e3⟩ := hh
    have PV := P.keep F2 (by decide) (by decide)
    rw [e2]
    refine pt_byteAt PV (by omega) ?_
    refine pt_isLetter PV ?_
    by_cases ek : k = eL tp n fr - fr
    · have hx : ltr tp n (fr + k) = false := by rw [ek, show fr + (eL tp n fr - fr) = eL tp n fr by omega]; exact (eL_ok fr).2.2
      rw [hx]
      refine brT rfl ?_
      rw [e1, e2]
      intro m hm
      have hm' : m = I (if 8 < eL tp n fr - fr then 1 else 2) := by
        rw [hm, show I (fr + k) - I fr = I (fr + k - fr) from I_sub (by omega), show fr + k - fr = k by omega]
        by_cases h8 : k ≤ 8
        · rw [if_pos ((le_L 8 (by decide) (by omega)).2 h8), if_neg (by omega)]; rfl
        · rw [if_neg (fun hh => h8 ((le_L 8 (by decide) (by omega)).1 hh)), if_pos (by omega)]; rfl
      intro U3 hU3
      have F3 : Tcw [] [211, 212, 213, 214, 215] [] T U3 := by rw [hU3]; exact F2.ss (by decide) _
      refine h U3 F3 ⟨P.keep F3 (by decide) (by decide), ?_, ?_, ?_, ?_, ?_, ?_, ?_, ?_, fr, rfl⟩
      · rw [hff, hU3, ss_s, if_neg (by decide)]; exact e1
      · rw [et, hU3, ss_s, if_neg (by decide), e2]
        show I (fr + k) = I (eL tp n fr)
        rw [ek, show fr + (eL tp n fr - fr) = eL tp n fr by omega]
      · rw [et, hU3, ss_s, if_pos rfl, hm']; rfl
      · intro hh
        rw [et] at hh
        have h9 : (if 8 < eL tp n fr - fr then 1 else 2) = 3 := hh
        split at h9 <;> omega
      · intro hh
        rw [et] at hh
        have h9 : (if 8 < eL tp n fr - fr then 1 else 2) = 4 := hh
        split at h9 <;> omega
      · intro hh
        rw [et] at hh
        have h9 : (if 8 < eL tp n fr - fr then 1 else 2) = 2 := hh
        have h8 : ¬ 8 < eL tp n fr - fr := fun hx => by rw [if_pos hx] at h9; omega
        have ew : wrd tp (tokA tp n fr) = bys tp fr k := by
          rw [wrd_bys, et]
          show bys tp fr (eL tp n fr - fr) = _
          rw [ek]
        rw [ew, hU3]
        show V.w 218 = _
        rw [e3, Nat.min_eq_right (by omega)]
      · rw [hff]; exact hto.1
      · exact (hto.2 h0).2
    have hk' : fr + k < eL tp n fr := by omega
    have hx : ltr tp n (fr + k) = true := (eL_ok fr).2.1 _ (by omega) hk'
    have hb2 := ltr_iff.1 hx
    rw [if_pos hx]
    refine brF (by decide) ?_
    rw [e1, e2, show I (fr + k) - I fr = I (fr + k - fr) from I_sub (by omega), show fr + k - fr = k by omega]
    by_cases h8 : 8 ≤ k
    · refine brT (by (first | omega | ((try simp (disch := omega) only [L_le, le_L, L_lt, lt_L, eq_L, L_eq, I_le, I_lt, I_eq, I_ni, add_L, L_add, I_add, mul_L, L_mul, I_mul, sub_L, L_sub, I_sub, div_L, rem_L]); done) | ((try simp (disch := omega) only [L_le, le_L, L_lt, lt_L, eq_L, L_eq, I_le, I_lt, I_eq, I_ni, add_L, L_add, I_add, mul_L, L_mul, I_mul, sub_L, L_sub, I_sub, div_L, rem_L]); omega))) ?_
      intro U3 hU3
      refine hK _ _ (by omega) ⟨by rw [hU3]; exact F2.ss (by decide) _, by rw [hU3, ss_s, if_neg (by decide)]; exact e1, ?_, ?_⟩
      · rw [hU3, ss_s, if_pos rfl]
        (try simp (disch := omega) only [L_le, le_L, L_lt, lt_L, eq_L, L_eq, I_le, I_lt, I_eq, I_ni, add_L, L_add, I_add, mul_L, L_mul, I_mul, sub_L, L_sub, I_sub, div_L, rem_L])
        rw [Nat.add_assoc]
      · rw [hU3]
        show V.w 218 = _
        rw [e3, Nat.min_eq_left h8, Nat.min_eq_left (by omega)]
    · refine brF (by (first | omega | ((try simp (disch := omega) only [L_le, le_L, L_lt, lt_L, eq_L, L_eq, I_le, I_lt, I_eq, I_ni, add_L, L_add, I_add, mul_L, L_mul, I_mul, sub_L, L_sub, I_sub, div_L, rem_L]); done) | ((try simp (disch := omega) only [L_le, le_L, L_lt, lt_L, eq_L, L_eq, I_le, I_lt, I_eq, I_ni, add_L, L_add, I_add, mul_L, L_mul, I_mul, sub_L, L_sub, I_sub, div_L, rem_L]); omega))) ?_
      refine pt_byteAt PV (by omega) ?_
      have ev : bv tp n (fr + k) = I (tp (fr + k)) := by unfold bv; rw [if_pos hb2.1]
      rw [ev, e3, J_step (by omega) (by omega)]
      intro U3 hU3 U4 hU4
      have F3 : Tcw [] [211, 212, 213, 214, 215] [] T U3 := by rw [hU3]; exact F2.sw _ _
      refine hK _ _ (by omega) ⟨by rw [hU4]; exact F3.ss (by decide) _, ?_, ?_, ?_⟩
      · rw [hU4, ss_s, if_neg (by decide), hU3]; exact e1
      · rw [hU4, ss_s, if_pos rfl, hU3]
        show V.s 212 + 1 = _
        rw [e2]
        (try simp (disch := omega) only [L_le, le_L, L_lt, lt_L, eq_L, L_eq, I_le, I_lt, I_eq, I_ni, add_L, L_add, I_add, mul_L, L_mul, I_mul, sub_L, L_sub, I_sub, div_L, rem_L])
        rw [Nat.add_assoc]
      · rw [hU4]
        show U3.w 218 = _
        rw [hU3, sw_w, if_pos rfl, Nat.min_eq_right (by omega), Nat.min_eq_right (by omega), bys_succ, cdW_snoc]
  rw [if_neg hl]
  refine brT rfl ?_
  refine pt_isDigit P1 ?_
  by_cases hd : dgt tp n fr = true
  · -- a number
    rw [if_pos hd]
    refine brF (by decide) ?_
    intro U2 hU2
    have hgt := eD_gt hd
    have et : tokA tp n fr = (fr, eD tp n fr, if 4 < eD tp n fr - fr then 1 else 3, nmv tp fr (min 4 (eD tp n fr - fr)), 0) := by unfold tokA; rw [if_pos h0, if_neg hl, if_pos hd]
    refine tlp_cnt (eD tp n fr - fr) (fun k s V => Tcw [] [211, 212, 213, 214, 215] [] T V ∧ V.s 211 = I fr ∧ V.s 212 = I (fr + k) ∧ V.s 214 = I (nmv tp fr (min 4 k))) ⟨by rw [hU2]; exact F1.ss (by decide) _, by rw [hU2, ss_s, if_neg (by decide)]; exact s1, by rw [hU2, ss_s, if_neg (by decide)]; exact s2, by rw [hU2, ss_s, if_pos rfl]; rfl⟩ ?_
    clear hU2 U2
    intro k s V K hk hh hK
    obtain ⟨F2, e1, e2, e3⟩ := hh
    have PV := P.keep F2 (by decide) (by decide)
    rw [e2]
    refine pt_byteAt PV (by omega) ?_
    refine pt_isDigit PV ?_
    by_cases ek : k = eD tp n fr - fr
    · have hx : dgt tp n (fr + k) = false := by rw [ek, show fr + (eD tp n fr - fr) = eD tp n fr by omega]; exact (eD_ok fr).2.2
      rw [hx]
      refine brT rfl ?_
      rw [e1, e2]
      intro m hm
      have hm' : m = I (if 4 < eD tp n fr - fr then 1 else 3) := by
        rw [hm, show I (fr + k) - I fr = I (fr + k - fr) from I_sub (by omega), show fr + k - fr = k by omega]
        by_cases h8 : k ≤ 4
        · rw [if_pos ((le_L 4 (by decide) (by omega)).2 h8), if_neg (by omega)]; rfl
        · rw [if_neg (fun hh => h8 ((le_L 4 (by decide) (by omega)).1 hh)), if_pos (by omega)]; rfl
      intro U3 hU3
      have F3 : Tcw [] [211, 212, 213, 214, 215] [] T U3 := by rw [hU3]; exact F2.ss (by decide) _
      refine h U3 F3 ⟨P.keep F3 (by decide) (by decide), ?_, ?_, ?_, ?_, ?_, ?_, ?_, ?_, fr, rfl⟩
      · rw [hff, hU3, ss_s, if_neg (by decide)]; exact e1
      · rw [et, hU3, ss_s, if_neg (by decide), e2]
        show I (fr + k) = I (eD tp n fr)
        rw [ek, show fr + (eD tp n fr - fr) = eD tp n fr by omega]
      · rw [et, hU3, ss_s, if_pos rfl, hm']; rfl
      · intro hh
        rw [et, hU3, ss_s, if_neg (by decide), e3, ek]; rfl
      · intro hh
        rw [et] at hh
        have h9 : (if 4 < eD tp n fr - fr then 1 else 3) = 4 := hh
        split at h9 <;> omega
      · intro hh
        rw [et] at hh
        have h9 : (if 4 < eD tp n fr - fr then 1 else 3) = 2 := hh
        split at h9 <;> omega
      · rw [hff]; exact hto.1
      · exact (hto.2 h0).2
    have hk' : fr + k < eD tp n fr := by omega
    have hx : dgt tp n (fr + k) = true := (eD_ok fr).2.1 _ (by omega) hk'
    have hb2 := dgt_iff.1 hx
    rw [if_pos hx]
    refine brF (by decide) ?_
    rw [e1, e2, show I (fr + k) - I fr = I (fr + k - fr) from I_sub (by omega), show fr + k - fr = k by omega]
    by_cases h8 : 4 ≤ k
    · refine brT (by (first | omega | ((try simp (disch := omega) only [L_le, le_L, L_lt, lt_L, eq_L, L_eq, I_le, I_lt, I_eq, I_ni, add_L, L_add, I_add, mul_L, L_mul, I_mul, sub_L, L_sub, I_sub, div_L, rem_L]); done) | ((try simp (disch := omega) only [L_le, le_L, L_lt, lt_L, eq_L, L_eq, I_le, I_lt, I_eq, I_ni, add_L, L_add, I_add, mul_L, L_mul, I_mul, sub_L, L_sub, I_sub, div_L, rem_L]); omega))) ?_
      intro U3 hU3
      refine hK _ _ (by omega) ⟨by rw [hU3]; exact F2.ss (by decide) _, by rw [hU3, ss_s, if_neg (by decide)]; exact e1, ?_, ?_⟩
      · rw [hU3, ss_s, if_pos rfl]
        (try simp (disch := omega) only [L_le, le_L, L_lt, lt_L, eq_L, L_eq, I_le, I_lt, I_eq, I_ni, add_L, L_add, I_add, mul_L, L_mul, I_mul, sub_L, L_sub, I_sub, div_L, rem_L])
        rw [Nat.add_assoc]
      · rw [hU3, ss_s, if_neg (by decide), e3, Nat.min_eq_left h8, Nat.min_eq_left (by omega)]
    · refine brF (by (first | omega | ((try simp (disch := omega) only [L_le, le_L, L_lt, lt_L, eq_L, L_eq, I_le, I_lt, I_eq, I_ni, add_L, L_add, I_add, mul_L, L_mul, I_mul, sub_L, L_sub, I_sub, div_L, rem_L]); done) | ((try simp (disch := omega) only [L_le, le_L, L_lt, lt_L, eq_L, L_eq, I_le, I_lt, I_eq, I_ni, add_L, L_add, I_add, mul_L, L_mul, I_mul, sub_L, L_sub, I_sub, div_L, rem_L]); omega))) ?_
      refine pt_byteAt PV (by omega) ?_
      have ev : bv tp n (fr + k) = I (tp (fr + k)) := by unfold bv; rw [if_pos hb2.1]
      have hnm : nmv tp fr k < 10 ^ k := nmv_le fr k (fun i hi => (dgt_iff.1 ((eD_ok (tp := tp) (n := n) fr).2.1 (fr + i) (by omega) (by omega))).2.2)
      have hpw : 10 ^ k ≤ 10 ^ 4 := Nat.pow_le_pow_right (by decide) (by omega)
      have h104 : (10 : Nat) ^ 4 = 10000 := by decide
      rw [ev, e3, Nat.min_eq_right (by omega)]
      have en : ((10 * I (nmv tp fr k)) + I (tp (fr + k))) - 48 = I (nmv tp fr (k + 1)) := by
        (try simp (disch := omega) only [L_le, le_L, L_lt, lt_L, eq_L, L_eq, I_le, I_lt, I_eq, I_ni, add_L, L_add, I_add, mul_L, L_mul, I_mul, sub_L, L_sub, I_sub, div_L, rem_L])
        show I (10 * nmv tp fr k + tp (fr + k) - 48) = I (10 * nmv tp fr k + (tp (fr + k) - 48))
        rw [Nat.add_sub_assoc (by omega)]
      rw [en]
      intro U3 hU3 U4 hU4
      have F3 : Tcw [] [211, 212, 213, 214, 215] [] T U3 := by rw [hU3]; exact F2.ss (by decide) _
      refine hK _ _ (by omega) ⟨by rw [hU4]; exact F3.ss (by decide) _, ?_, ?_, ?_⟩
      · rw [hU4, ss_s, if_neg (by decide), hU3, ss_s, if_neg (by decide)]; exact e1
      · rw [hU4, ss_s, if_pos rfl, hU3, ss_s, if_neg (by decide), e2]
        (try simp (disch := omega) only [L_le, le_L, L_lt, lt_L, eq_L, L_eq, I_le, I_lt, I_eq, I_ni, add_L, L_add, I_add, mul_L, L_mul, I_mul, sub_L, L_sub, I_sub, div_L, rem_L])
        rw [Nat.add_assoc]
      · rw [hU4, ss_s, if_neg (by decide), hU3, ss_s, if_pos rfl, Nat.min_eq_right (by omega)]
  -- a sign
  rw [if_neg hd]
  refine brT rfl ?_
  intro U2 hU2
  have et : tokA tp n fr = (fr, fr + 1, if sgn (tp fr) then 4 else 1, 0, tp fr) := by unfold tokA; rw [if_pos h0, if_neg hl, if_neg hd]
  rw [eb]
  refine pt_isKnownSign hb ?_
  intro m hm U3 hU3 U4 hU4
  have F2 : Tcw [] [211, 212, 213, 214, 215] [] T U2 := by rw [hU2]; exact F1.ss (by decide) _
  have F4 : Tcw [] [211, 212, 213, 214, 215] [] T U4 := by rw [hU4, hU3]; exact (F2.ss (by decide) _).ss (by decide) _
  have hm' : m = I (if sgn (tp fr) then 4 else 1) := by
    rw [hm]
    by_cases hs : sgn (tp fr) = true
    · rw [if_pos hs, if_neg (by decide), if_pos hs]; rfl
    · rw [if_neg hs, if_pos rfl, if_neg hs]; rfl
  refine h U4 F4 ⟨P.keep F4 (by decide) (by decide), ?_, ?_, ?_, ?_, ?_, ?_, ?_, ?_, fr, rfl⟩
  · rw [hff, hU4, ss_s, if_neg (by decide), hU3, ss_s, if_neg (by decide), hU2, ss_s, if_neg (by decide)]; exact s1
  · rw [et, hU4, ss_s, if_neg (by decide), hU3, ss_s, if_neg (by decide), hU2, ss_s, if_pos rfl, s2]
    (try simp (disch := omega) only [L_le, le_L, L_lt, lt_L, eq_L, L_eq, I_le, I_lt, I_eq, I_ni, add_L, L_add, I_add, mul_L, L_mul, I_mul, sub_L, L_sub, I_sub, div_L, rem_L])
    rfl
  · rw [et, hU4, ss_s, if_neg (by decide), hU3, ss_s, if_pos rfl, hm']; rfl
  · intro hh
    rw [et] at hh
    have h9 : (if sgn (tp fr) = true then 4 else 1) = 3 := hh
    split at h9 <;> omega
  · intro hh
    rw [et, hU4, ss_s, if_pos rfl]; rfl
  · intro hh
    rw [et] at hh
    have h9 : (if sgn (tp fr) = true then 4 else 1) = 2 := hh
    split at h9 <;> omega
  · rw [hff]; exact hto.1
  · exact (hto.2 h0).2
end
