/-! plain: bt cl md od md2 md3 -/
set_option maxRecDepth 100000
section
abbrev I (n : Nat) : Int32 := Int32.ofNat n
theorem I_le {a b : Nat} (ha : a < 2147483648) (hb : b < 2147483648) : I a ≤ I b ↔ a ≤ b := Int32.ofNat_le_iff_le ha hb
theorem I_lt {a b : Nat} (ha : a < 2147483648) (hb : b < 2147483648) : I a < I b ↔ a < b := Int32.ofNat_lt_iff_lt ha hb
theorem I_eq {a b : Nat} (ha : a < 2147483648) (hb : b < 2147483648) : I a = I b ↔ a = b := by
  constructor
  · intro h
    have := congrArg Int32.toInt h
    rw [Int32.toInt_ofNat_of_lt ha, Int32.toInt_ofNat_of_lt hb] at this
    omega
  · rintro rfl; rfl
theorem I_add (a b : Nat) : I a + I b = I (a + b) := (Int32.ofNat_add a b).symm
theorem I_mul (a b : Nat) : I a * I b = I (a * b) := (Int32.ofNat_mul a b).symm
theorem I_sub {a b : Nat} (h : b ≤ a) : I a - I b = I (a - b) := (Int32.ofNat_sub a b h).symm
theorem I_ni {a : Nat} (ha : a < 2147483648) : ni (I a) = a := Int32.toNatClampNeg_ofNat_of_lt ha
theorem I_toInt {a : Nat} (ha : a < 2147483648) : (I a).toInt = a := Int32.toInt_ofNat_of_lt ha
theorem I_neg1_ne {a : Nat} (ha : a < 2147483648) : I a ≠ -1 := by
  intro h
  have := congrArg Int32.toInt h
  rw [I_toInt ha] at this
  have h2 : (-1 : Int32).toInt = -1 := by decide
  omega
theorem I_nonneg {a : Nat} (ha : a < 2147483648) : ¬ I a < 0 := by
  rw [show (0 : Int32) = I 0 from rfl, I_lt ha (by omega)]; omega
theorem I_of_ni {x : Int32} (h : ¬ x < 0) : x = I (ni x) := by
  have h0 : 0 ≤ x.toInt := by
    have := mt Int32.lt_iff_toInt_lt.2 h
    have h2 : (0 : Int32).toInt = 0 := by decide
    omega
  apply Int32.toInt_inj.1
  have hlt := Int32.toInt_lt x
  have e : ni x = x.toInt.toNat := rfl
  rw [I_toInt (by omega)]
  omega
theorem I_lt0 {x : Int32} : x < 0 ↔ x.toInt < 0 := by
  rw [Int32.lt_iff_toInt_lt]; exact Iff.rfl
theorem I_div {a b : Nat} (ha : a < 2147483648) (hb : b < 2147483648) : I a / I b = I (a / b) := by
  apply Int32.toInt_inj.1
  have h1 : a / b ≤ a := Nat.div_le_self a b
  rw [Int32.toInt_div_of_ne_left, I_toInt ha, I_toInt hb, I_toInt (by omega)]
  · simp
  · intro h
    have := congrArg Int32.toInt h
    rw [I_toInt ha] at this
    have h2 : Int32.minValue.toInt = -2147483648 := by decide
    omega

theorem L_le (n : Nat) {k : Nat} (hn : (OfNat.ofNat n : Nat) < 2147483648) (hk : k < 2147483648) : ((no_index (OfNat.ofNat n) : Int32) ≤ I k) ↔ (OfNat.ofNat n : Nat) ≤ k := I_le hn hk
theorem le_L (n : Nat) {k : Nat} (hn : (OfNat.ofNat n : Nat) < 2147483648) (hk : k < 2147483648) : (I k ≤ (no_index (OfNat.ofNat n) : Int32)) ↔ k ≤ (OfNat.ofNat n : Nat) := I_le hk hn
theorem L_lt (n : Nat) {k : Nat} (hn : (OfNat.ofNat n : Nat) < 2147483648) (hk : k < 2147483648) : ((no_index (OfNat.ofNat n) : Int32) < I k) ↔ (OfNat.ofNat n : Nat) < k := I_lt hn hk
theorem lt_L (n : Nat) {k : Nat} (hn : (OfNat.ofNat n : Nat) < 2147483648) (hk : k < 2147483648) : (I k < (no_index (OfNat.ofNat n) : Int32)) ↔ k < (OfNat.ofNat n : Nat) := I_lt hk hn
theorem eq_L (n : Nat) {k : Nat} (hn : (OfNat.ofNat n : Nat) < 2147483648) (hk : k < 2147483648) : (I k = (no_index (OfNat.ofNat n) : Int32)) ↔ k = (OfNat.ofNat n : Nat) := I_eq hk hn
theorem L_eq (n : Nat) {k : Nat} (hn : (OfNat.ofNat n : Nat) < 2147483648) (hk : k < 2147483648) : ((no_index (OfNat.ofNat n) : Int32) = I k) ↔ (OfNat.ofNat n : Nat) = k := I_eq hn hk
theorem add_L (n k : Nat) : I k + (no_index (OfNat.ofNat n) : Int32) = I (k + (OfNat.ofNat n : Nat)) := I_add k n
theorem L_add (n k : Nat) : (no_index (OfNat.ofNat n) : Int32) + I k = I ((OfNat.ofNat n : Nat) + k) := I_add n k
theorem mul_L (n k : Nat) : I k * (no_index (OfNat.ofNat n) : Int32) = I (k * (OfNat.ofNat n : Nat)) := I_mul k n
theorem L_mul (n k : Nat) : (no_index (OfNat.ofNat n) : Int32) * I k = I ((OfNat.ofNat n : Nat) * k) := I_mul n k
theorem sub_L (n : Nat) {k : Nat} (h : (OfNat.ofNat n : Nat) ≤ k) : I k - (no_index (OfNat.ofNat n) : Int32) = I (k - (OfNat.ofNat n : Nat)) := I_sub h
theorem L_sub (n : Nat) {k : Nat} (h : k ≤ (OfNat.ofNat n : Nat)) : (no_index (OfNat.ofNat n) : Int32) - I k = I ((OfNat.ofNat n : Nat) - k) := I_sub h
theorem div_L (n : Nat) {k : Nat} (hn : (OfNat.ofNat n : Nat) < 2147483648) (hk : k < 2147483648) : I k / (no_index (OfNat.ofNat n) : Int32) = I (k / (OfNat.ofNat n : Nat)) := I_div hk hn
theorem rem_L (n : Nat) {k : Nat} (hn : (OfNat.ofNat n : Nat) < 2147483648) (hk : k < 2147483648) : jrem (I k) (no_index (OfNat.ofNat n) : Int32) = I (k % (OfNat.ofNat n : Nat)) := by
  rw [jrem, div_L n hn hk, mul_L, I_sub (Nat.div_mul_le_self _ _)]
  congr 1
  have := Nat.div_add_mod k (OfNat.ofNat n : Nat)
  have e : k / (OfNat.ofNat n : Nat) * (OfNat.ofNat n : Nat) = (OfNat.ofNat n : Nat) * (k / (OfNat.ofNat n : Nat)) := Nat.mul_comm _ _
  omega
theorem brT {c A B : Prop} (hc : c) (a : A) : (c → A) ∧ (¬ c → B) := ⟨fun _ => a, fun n => absurd hc n⟩
theorem brF {c A B : Prop} (hc : ¬ c) (b : B) : (c → A) ∧ (¬ c → B) := ⟨fun h => absurd h hc, fun _ => b⟩
/-- a bit. -/
def bt (x : Int32) (k : Nat) : Bool := x.toBitVec.getLsbD k
theorem bt_or (a b : Int32) (k : Nat) : bt (a ||| b) k = (bt a k || bt b k) := by simp [bt]
theorem bt_and (a b : Int32) (k : Nat) : bt (a &&& b) k = (bt a k && bt b k) := by simp [bt]
theorem bt_xor (a b : Int32) (k : Nat) : bt (a ^^^ b) k = (bt a k ^^ bt b k) := by simp [bt]
theorem bt_big (a : Int32) {k : Nat} (h : 32 ≤ k) : bt a k = false := BitVec.getLsbD_of_ge _ _ h
theorem bt_ext {a b : Int32} (h : ∀ k, k < 32 → bt a k = bt b k) : a = b := by
  apply Int32.toBitVec_inj.1
  apply BitVec.eq_of_getLsbD_eq
  intro i hi; exact h i hi
theorem bt_zero (k : Nat) : bt 0 k = false := by simp [bt]
theorem bt_neg1 (k : Nat) : bt (-1) k = decide (k < 32) := by
  have : (-1 : Int32).toBitVec = BitVec.allOnes 32 := by decide
  rw [bt, this, BitVec.getLsbD_allOnes]
theorem bt_nat (n k : Nat) (h : n < 4294967296) : bt (I n) k = n.testBit k := by
  have e : (I n).toBitVec = BitVec.ofNat 32 n := rfl
  rw [bt, e, BitVec.getLsbD_ofNat]
  by_cases hk : k < 32
  · simp [hk]
  · have : n < 2 ^ k := Nat.lt_of_lt_of_le h (by rw [show 4294967296 = 2 ^ 32 from rfl]; exact Nat.pow_le_pow_right (by decide) (by omega))
    simp [hk, Nat.testBit_lt_two_pow this]
theorem and31 {s : Nat} (h : s < 32) : (I s &&& 31) = I s := by
  apply bt_ext
  intro k hk
  have : (31 : Int32) = I 31 := rfl
  rw [bt_and, this, bt_nat _ _ (by omega), bt_nat _ _ (by omega)]
  rw [show 31 = 2 ^ 5 - 1 from rfl, Nat.testBit_two_pow_sub_one]
  by_cases h5 : k < 5
  · simp [h5]
  · have : s < 2 ^ k := Nat.lt_of_lt_of_le h (by rw [show 32 = 2 ^ 5 from rfl]; exact Nat.pow_le_pow_right (by decide) (by omega))
    simp [Nat.testBit_lt_two_pow this]
theorem smod32 {s : Nat} (h : s < 32) : ((I s).toBitVec.smod 32).toNat = s := by
  have : ∀ s : Fin 32, ((Int32.ofNat s.val).toBitVec.smod 32).toNat = s.val := by decide
  exact this ⟨s, h⟩
theorem bt_shl (a : Int32) {s : Nat} (h : s < 32) (k : Nat) : bt (jshl a (I s)) k = (decide (k < 32) && !decide (k < s) && bt a (k - s)) := by
  rw [jshl, and31 h, bt, Int32.toBitVec_shiftLeft, BitVec.shiftLeft_eq', smod32 h, BitVec.getLsbD_shiftLeft]; rfl
theorem bt_shr (a : Int32) {s : Nat} (h : s < 32) {k : Nat} (hk : s + k < 32) : bt (jshr a (I s)) k = bt a (s + k) := by
  rw [jshr, and31 h, bt, Int32.toBitVec_shiftRight]
  show (a.toBitVec.sshiftRight ((I s).toBitVec.smod 32).toNat).getLsbD k = _
  rw [smod32 h, BitVec.getLsbD_sshiftRight, if_pos hk]
  have : ¬ 32 ≤ k := by omega
  simp [this, bt]
theorem bt_ushr (a : Int32) {s : Nat} (h : s < 32) (k : Nat) : bt (jushr a (I s)) k = bt a (s + k) := by
  have e : (I s).toUInt32 &&& Int32.toUInt32 31 = (I s).toUInt32 := by
    have : ∀ s : Fin 32, (Int32.ofNat s.val).toUInt32 &&& Int32.toUInt32 31 = (Int32.ofNat s.val).toUInt32 := by decide
    exact this ⟨s, h⟩
  have e2 : ((I s).toUInt32.toBitVec % 32).toNat = s := by
    have : ∀ s : Fin 32, ((Int32.ofNat s.val).toUInt32.toBitVec % 32).toNat = s.val := by decide
    exact this ⟨s, h⟩
  rw [jushr, e]
  show ((a.toUInt32 >>> (I s).toUInt32).toBitVec).getLsbD k = _
  rw [UInt32.toBitVec_shiftRight]
  show (a.toUInt32.toBitVec >>> ((I s).toUInt32.toBitVec % 32).toNat).getLsbD k = _
  rw [e2, BitVec.getLsbD_ushiftRight]; rfl
theorem bt_one (k : Nat) : bt 1 k = decide (k = 0) := by
  rw [show (1 : Int32) = I 1 from rfl, bt_nat _ _ (by omega)]
  cases k with
  | zero => rfl
  | succ k => simp [Nat.testBit_succ]
theorem and1 (x : Int32) : (x &&& 1) = 1 ↔ bt x 0 = true := by
  constructor
  · intro h
    have := congrArg (bt · 0) h
    simp only [bt_and, bt_one] at this
    simpa using this
  · intro h
    apply bt_ext
    intro k _
    rw [bt_and, bt_one]
    by_cases hk : k = 0
    · simp [hk, h]
    · simp [hk]
theorem has_shr {p : Int32} {k : Nat} (h : k < 32) : (jshr p (I k) &&& 1) = 1 ↔ bt p k = true := by
  rw [and1, bt_shr p h (by omega)]; rfl
theorem has_ushr {p : Int32} {k : Nat} (h : k < 32) : (jushr p (I k) &&& 1) = 1 ↔ bt p k = true := by
  rw [and1, bt_ushr p h]; rfl
theorem bt_1shl {s : Nat} (h : s < 32) (k : Nat) : bt (jshl 1 (I s)) k = decide (k = s) := by
  rw [bt_shl _ h, bt_one]
  by_cases e : k = s
  · subst e; simp [h]
  · by_cases hk : k < s
    · simp [hk, e]
    · have : ¬ k - s = 0 := by omega
      simp [this, e]
theorem bt_255 (k : Nat) : bt 255 k = decide (k < 8) := by
  rw [show (255 : Int32) = I 255 from rfl, bt_nat _ _ (by omega), show 255 = 2 ^ 8 - 1 from rfl, Nat.testBit_two_pow_sub_one]
theorem bt_15 (k : Nat) : bt 15 k = decide (k < 4) := by
  rw [show (15 : Int32) = I 15 from rfl, bt_nat _ _ (by omega), show 15 = 2 ^ 4 - 1 from rfl, Nat.testBit_two_pow_sub_one]
theorem shl1_sub {s : Nat} (h : s < 31) : jshl 1 (I s) - 1 = I (2 ^ s - 1) := by
  have : ∀ s : Fin 31, jshl 1 (Int32.ofNat s.val) - 1 = Int32.ofNat (2 ^ s.val - 1) := by decide
  exact this ⟨s, h⟩
theorem bt_mask {s : Nat} (h : s < 31) (k : Nat) : bt (jshl 1 (I s) - 1) k = decide (k < s) := by
  have : 2 ^ s ≤ 2 ^ 30 := Nat.pow_le_pow_right (by decide) (by omega)
  rw [shl1_sub h, bt_nat _ _ (by omega), Nat.testBit_two_pow_sub_one]
theorem bt_notx (a : Int32) {k : Nat} (h : k < 32) : bt (a ^^^ (-1)) k = !bt a k := by
  rw [bt_xor, bt_neg1]; simp [h]
theorem sub0 {a b : Int32} : (a &&& (b ^^^ (-1))) = 0 ↔ ∀ k, bt a k = true → bt b k = true := by
  constructor
  · intro h k hk
    have h32 : k < 32 := by
      apply Nat.lt_of_not_le
      intro hh; rw [bt_big a hh] at hk; exact absurd hk (by simp)
    have := congrArg (bt · k) h
    simp only [bt_and, bt_notx b h32, hk, bt_zero] at this
    simpa using this
  · intro h
    apply bt_ext
    intro k hk
    rw [bt_and, bt_notx b hk, bt_zero]
    cases ha : bt a k with
    | false => rfl
    | true => simp [h k ha]
theorem or_same {a b : Int32} : (a ||| b) = a ↔ ∀ k, bt b k = true → bt a k = true := by
  constructor
  · intro h k hk
    have := congrArg (bt · k) h
    simp only [bt_or, hk, Bool.or_true] at this
    exact this.symm
  · intro h
    apply bt_ext
    intro k _
    rw [bt_or]
    cases hb : bt b k with
    | false => simp
    | true => simp [h k hb]
end
section
def clI (r : Nat → Int32) (k : Nat) : Nat → Nat → Int32
  | 0 => r
  | n + 1 => if bt (clI r k n n) k then updN (clI r k n) n (clI r k n n ||| clI r k n k) else clI r k n

def clK (r : Nat → Int32) : Nat → Nat → Int32
  | 0 => r
  | k + 1 => clI (clK r k) k 32

def clo (r : Nat → Int32) : Nat → Int32 := clK r 32

theorem clI_ge (r : Nat → Int32) (k : Nat) : ∀ n o, n ≤ o → clI r k n o = r o
  | 0, _, _ => rfl
  | n + 1, o, h => by
    simp only [clI]
    split
    · rw [updN_ne _ _ (by omega)]; exact clI_ge r k n o (by omega)
    · exact clI_ge r k n o (by omega)

theorem clI_bt (r : Nat → Int32) (k : Nat) : ∀ n o x, bt (clI r k n o) x = if o < n then (bt (r o) x || (bt (r o) k && bt (r k) x)) else bt (r o) x
  | 0, o, x => by simp [clI]
  | n + 1, o, x => by
    have ih := clI_bt r k n
    have hk : ∀ x, bt (clI r k n k) x = bt (r k) x := by
      intro x
      rw [ih]
      split
      · cases bt (r k) x <;> simp
      · rfl
    have hn : clI r k n n = r n := clI_ge r k n n (Nat.le_refl _)
    simp only [clI]
    by_cases e : o = n
    · subst e
      rw [if_pos (Nat.lt_succ_self o), hn]
      split
      · next hb => rw [updN_same, bt_or, hk, hb]; simp
      · next hb => rw [hn]; simp [hb]
    · have h1 : (if bt (clI r k n n) k then updN (clI r k n) n (clI r k n n ||| clI r k n k) else clI r k n) o = clI r k n o := by
        split
        · exact updN_ne _ _ e
        · rfl
      rw [h1, ih]
      by_cases h : o < n
      · rw [if_pos h, if_pos (by omega)]
      · rw [if_neg h, if_neg (by omega)]

def Rw (r : Nat → Int32) (a b : Nat) : Prop := a < 32 ∧ bt (r a) b = true

theorem Rw.lt {r a b} (h : Rw r a b) : b < 32 := by
  apply Nat.lt_of_not_le
  intro hh; have := h.2; rw [bt_big _ hh] at this; exact absurd this (by simp)

theorem clK_bt (r : Nat → Int32) : ∀ k, k ≤ 32 → ∀ o x, o < 32 → (bt (clK r k o) x = true ↔ Wa (Rw r) k o x)
  | 0, _, o, x, ho => by simp [clK, Wa, Rw, ho]
  | k + 1, hk, o, x, ho => by
    have ih := clK_bt r k (by omega)
    simp only [clK, Wa]
    rw [clI_bt, if_pos ho]
    simp only [Bool.or_eq_true, Bool.and_eq_true]
    rw [ih o x ho, ih o k ho, ih k x (by omega)]

theorem clo_bt (r : Nat → Int32) {o x : Nat} (ho : o < 32) : bt (clo r o) x = true ↔ Trc (Rw r) o x := by
  rw [clo, clK_bt r 32 (Nat.le_refl _) o x ho, Wa.all (fun a b h => Rw.lt h)]

theorem clK_ge (r : Nat → Int32) : ∀ k o, 32 ≤ o → clK r k o = r o
  | 0, _, _ => rfl
  | k + 1, o, h => by simp only [clK]; rw [clI_ge _ _ _ _ h]; exact clK_ge r k o h

theorem clo_ge (r : Nat → Int32) {o : Nat} (h : 32 ≤ o) : clo r o = r o := clK_ge r 32 o h

theorem clo_congr {r r' : Nat → Int32} (h : ∀ o, o < 32 → r o = r' o) {o : Nat} (ho : o < 32) : clo r o = clo r' o := by
  apply bt_ext
  intro k _
  have e : bt (clo r o) k = true ↔ bt (clo r' o) k = true := by
    rw [clo_bt r ho, clo_bt r' ho]
    have : ∀ a b, Rw r a b ↔ Rw r' a b := fun a b => ⟨fun x => ⟨x.1, by rw [← h a x.1]; exact x.2⟩, fun x => ⟨x.1, by rw [h a x.1]; exact x.2⟩⟩
    rw [show Rw r = Rw r' from funext fun a => funext fun b => propext (this a b)]
  cases h1 : bt (clo r o) k <;> cases h2 : bt (clo r' o) k <;> simp_all
end
section
/-- a rule: codes one behind the other (0 a number, 1 the own number, 2 an occ, 3 if, else what joins two). -/
abbrev Ex : Type := List (Nat × Nat)
def jn (j : Nat) (a b : Int32) : Int32 :=
  if j = 43 then a + b else if j = 45 then a - b else if j = 42 then a * b else if j = 124 then a ||| b else if j = 38 then a &&& b
  else if j = 60 then (if a < b then 1 else 0) else if j = 4 then (if a < b then b else a) else (if a < b then a else b)
def Ex.asks : Ex → Int32
  | [] => 0
  | (k, v) :: l => if k = 2 then jshl 1 (I v) ||| Ex.asks l else Ex.asks l
def Ex.isOwn : Ex → Bool
  | [] => false
  | (k, _) :: l => decide (k = 1) || Ex.isOwn l

/-- a grammar in numbers: how many symbols, productions; of symbols ins, attributes; of productions children, the symbol at a position; rules by occs. -/
def Gv : Type := Nat × Nat × (Nat → Nat) × (Nat → Nat) × (Nat → Nat) × (Nat → Nat → Nat) × (Nat → Nat → Option Ex)
def Gv.mk (nS nP : Nat) (ins cnt kn : Nat → Nat) (sy : Nat → Nat → Nat) (rl : Nat → Nat → Option Ex) : Gv := (nS, nP, ins, cnt, kn, sy, rl)
def Gv.nS (G : Gv) : Nat := G.1
def Gv.nP (G : Gv) : Nat := G.2.1
def Gv.ins (G : Gv) : Nat → Nat := G.2.2.1
def Gv.cnt (G : Gv) : Nat → Nat := G.2.2.2.1
def Gv.kn (G : Gv) : Nat → Nat := G.2.2.2.2.1
def Gv.sy (G : Gv) : Nat → Nat → Nat := G.2.2.2.2.2.1
def Gv.rl (G : Gv) : Nat → Nat → Option Ex := G.2.2.2.2.2.2

def Gv.ask (G : Gv) (p o : Nat) : Int32 := match G.rl p o with
  | some e => e.asks
  | none => 0

/-- an occ of a production. -/
abbrev Gv.oc (G : Gv) (p o : Nat) : Prop := o < 32 ∧ o / 8 ≤ G.kn p ∧ o % 8 < G.cnt (G.sy p (o / 8))

/-- an occ that a rule can tell. -/
abbrev Gv.tl (G : Gv) (p o : Nat) : Prop := G.oc p o ∧ (G.ins (G.sy p (o / 8)) ≤ o % 8 ↔ o < 8)

def Gv.WF (G : Gv) : Prop :=
  (G.nS ≤ 8) ∧
  (G.nP ≤ 12) ∧
  (∀ s, s < G.nS → G.ins s ≤ 4) ∧
  (∀ s, s < G.nS → G.ins s ≤ G.cnt s) ∧
  (∀ s, s < G.nS → G.cnt s ≤ G.ins s + 4) ∧
  (∀ p, p < G.nP → G.kn p ≤ 3) ∧
  (∀ p k, p < G.nP → k ≤ G.kn p → G.sy p k < G.nS) ∧
  (∀ p o e, p < G.nP → G.rl p o = some e → G.tl p o) ∧
  (∀ p o e x, p < G.nP → G.rl p o = some e → bt e.asks x = true → G.oc p x)
theorem Gv.WF.nS {G : Gv} (h9 : Gv.WF G) : G.nS ≤ 8 := h9.1
theorem Gv.WF.nP {G : Gv} (h9 : Gv.WF G) : G.nP ≤ 12 := h9.2.1
theorem Gv.WF.ins {G : Gv} (h9 : Gv.WF G) : ∀ s, s < G.nS → G.ins s ≤ 4 := h9.2.2.1
theorem Gv.WF.ic {G : Gv} (h9 : Gv.WF G) : ∀ s, s < G.nS → G.ins s ≤ G.cnt s := h9.2.2.2.1
theorem Gv.WF.cnt {G : Gv} (h9 : Gv.WF G) : ∀ s, s < G.nS → G.cnt s ≤ G.ins s + 4 := h9.2.2.2.2.1
theorem Gv.WF.kn {G : Gv} (h9 : Gv.WF G) : ∀ p, p < G.nP → G.kn p ≤ 3 := h9.2.2.2.2.2.1
theorem Gv.WF.sy {G : Gv} (h9 : Gv.WF G) : ∀ p k, p < G.nP → k ≤ G.kn p → G.sy p k < G.nS := h9.2.2.2.2.2.2.1
theorem Gv.WF.rl {G : Gv} (h9 : Gv.WF G) : ∀ p o e, p < G.nP → G.rl p o = some e → G.tl p o := h9.2.2.2.2.2.2.2.1
theorem Gv.WF.rb {G : Gv} (h9 : Gv.WF G) : ∀ p o e x, p < G.nP → G.rl p o = some e → bt e.asks x = true → G.oc p x := h9.2.2.2.2.2.2.2.2

theorem Gv.WF.cnt8 {G : Gv} (W : G.WF) {s : Nat} (h : s < G.nS) : G.cnt s ≤ 8 := by
  have := W.cnt s h; have := W.ins s h; omega

theorem Gv.oc_lt {G : Gv} {p o : Nat} (h : G.oc p o) : o < 32 := h.1

theorem Gv.WF.ocS {G : Gv} (W : G.WF) {p o : Nat} (hp : p < G.nP) (h : G.oc p o) : G.sy p (o / 8) < G.nS := W.sy p _ hp h.2.1

/-- rows: by rules; with what is induced. -/
def Gv.addI (G : Gv) (ind : Nat → Int32) (p : Nat) (r : Nat → Int32) : Nat → Int32 := fun o =>
  if G.oc p o then r o ||| jshl (ind (8 * G.sy p (o / 8) + o % 8)) (I (8 * (o / 8))) else r o

def Gv.rI (G : Gv) (ind : Nat → Int32) (p : Nat) : Nat → Int32 := G.addI ind p (G.ask p)

/-- what a production induces: occs below n. -/
def Gv.indN (G : Gv) (p : Nat) (rows : Nat → Int32) : Nat → (Nat → Int32) → Nat → Int32
  | 0, ind => ind
  | n + 1, ind =>
    if G.oc p n then
      updN (G.indN p rows n ind) (8 * G.sy p (n / 8) + n % 8) (G.indN p rows n ind (8 * G.sy p (n / 8) + n % 8) ||| (jushr (rows n) (I (8 * (n / 8))) &&& 255))
    else G.indN p rows n ind

def Gv.indP (G : Gv) (ind : Nat → Int32) (p : Nat) : Nat → Int32 := G.indN p (clo (G.rI ind p)) 32 ind

/-- a round: productions below n. -/
def Gv.indR (G : Gv) (ind : Nat → Int32) : Nat → Nat → Int32
  | 0 => ind
  | n + 1 => G.indP (G.indR ind n) n

/-- the rounds one behind the other. -/
def Gv.indK (G : Gv) : Nat → Nat → Int32
  | 0 => fun _ => 0
  | k + 1 => G.indR (G.indK k) G.nP

def Gv.IsInd (G : Gv) (ind : Nat → Int32) : Prop := G.indR ind G.nP = ind ∧ ∃ k, ind = G.indK k

theorem Gv.indK_fix {G : Gv} {k : Nat} (h : G.indR (G.indK k) G.nP = G.indK k) : ∀ m, k ≤ m → G.indK m = G.indK k := by
  intro m hm
  induction m with
  | zero => have : k = 0 := by omega
            rw [this]
  | succ m ih =>
    by_cases e : k = m + 1
    · rw [e]
    · have := ih (by omega)
      show G.indR (G.indK m) G.nP = _
      rw [this, h]

theorem Gv.IsInd.unique {G : Gv} {a b : Nat → Int32} (ha : G.IsInd a) (hb : G.IsInd b) : a = b := by
  obtain ⟨fa, k, rfl⟩ := ha
  obtain ⟨fb, m, rfl⟩ := hb
  rcases Nat.le_total k m with h | h
  · exact (G.indK_fix fa m h).symm
  · exact G.indK_fix fb k h

theorem Gv.indN_skip {G : Gv} {p : Nat} {rows ind : Nat → Int32} {n : Nat} : ∀ m, n ≤ m → (∀ o, n ≤ o → o < m → ¬ G.oc p o) → G.indN p rows m ind = G.indN p rows n ind := by
  intro m
  induction m with
  | zero => intro h _; have : n = 0 := by omega
            rw [this]
  | succ m ih =>
    intro h hn
    by_cases e : n = m + 1
    · rw [e]
    · simp only [Gv.indN]
      rw [if_neg (hn m (by omega) (by omega))]
      exact ih (by omega) (fun o h1 h2 => hn o h1 (by omega))

/-- bits grow. -/
def Sub (a b : Nat → Int32) : Prop := ∀ i k, bt (a i) k = true → bt (b i) k = true
theorem Sub.refl (a : Nat → Int32) : Sub a a := fun _ _ h => h
theorem Sub.trans {a b c : Nat → Int32} (h : Sub a b) (g : Sub b c) : Sub a c := fun i k x => g i k (h i k x)

def mb (ind : Nat → Int32) : Nat := ((List.range 512).filter (fun x => bt (ind (x / 8)) (x % 8))).length
theorem mb_le (ind : Nat → Int32) : mb ind ≤ 512 := by
  have := List.length_filter_le (fun x => bt (ind (x / 8)) (x % 8)) (List.range 512)
  simpa [mb] using this
theorem mb_mono {a b : Nat → Int32} (h : Sub a b) : mb a ≤ mb b := filt_le _ _ _ (fun x _ hx => h _ _ hx)
theorem mb_lt {a b : Nat → Int32} (h : Sub a b) {i k : Nat} (hi : i < 64) (hk : k < 8) (h1 : bt (b i) k = true) (h0 : bt (a i) k = false) : mb a < mb b := by
  refine filt_lt _ _ _ (fun x _ hx => h _ _ hx) ⟨8 * i + k, by simp; omega, ?_, ?_⟩
  · have e1 : (8 * i + k) / 8 = i := by omega
    have e2 : (8 * i + k) % 8 = k := by omega
    rw [e1, e2]; exact h1
  · have e1 : (8 * i + k) / 8 = i := by omega
    have e2 : (8 * i + k) % 8 = k := by omega
    rw [e1, e2, h0]; simp

theorem Sub.upd {a : Nat → Int32} {j : Nat} {x : Int32} : Sub a (updN a j (a j ||| x)) := by
  intro i k h
  simp only [updN]
  split
  · next e => rw [bt_or, ← e, h]; rfl
  · exact h

theorem Gv.indN_sub {G : Gv} {p : Nat} {rows ind : Nat → Int32} : ∀ n, Sub ind (G.indN p rows n ind)
  | 0 => Sub.refl _
  | n + 1 => by
    simp only [Gv.indN]
    split
    · exact (Gv.indN_sub n).trans Sub.upd
    · exact Gv.indN_sub n

theorem Gv.indR_sub {G : Gv} {ind : Nat → Int32} : ∀ n, Sub ind (G.indR ind n)
  | 0 => Sub.refl _
  | n + 1 => (Gv.indR_sub n).trans (Gv.indN_sub 32)

/-- what a flag tells of a start and what came of it. -/
def Flg (fl : Int32) (a b : Nat → Int32) : Prop := (fl = 0 ∧ b = a) ∨ (fl = 1 ∧ mb a < mb b)

theorem Flg.sub {fl a b} (h : Flg fl a b) : mb a ≤ mb b := by
  rcases h with ⟨_, rfl⟩ | ⟨_, h⟩ <;> omega

theorem its_bt {r : Int32} {n k : Nat} (hn : n < 32) : bt (jushr r (I (8 * (n / 8))) &&& 255) k = (bt r (8 * (n / 8) + k) && decide (k < 8)) := by
  rw [bt_and, bt_ushr _ (by omega), bt_255]

/-- one occ more: what the flag must be. -/
theorem Flg.up {fl a b} (h : Flg fl a b) {j : Nat} (hj : j < 64) {x : Int32} (hx : ∀ k, bt x k = true → k < 8) (hS : Sub a b) :
    Flg (if fl = 0 then (if (b j ||| x) = b j then 0 else 1) else 1) a (updN b j (b j ||| x)) := by
  by_cases hc : (b j ||| x) = b j
  · have e : updN b j (b j ||| x) = b := by
      rw [hc]; funext k; simp only [updN]; split
      · next e => rw [e]
      · rfl
    rw [e]
    rcases h with ⟨rfl, h⟩ | ⟨rfl, h⟩
    · exact .inl ⟨by simp [hc], h⟩
    · exact .inr ⟨by simp, h⟩
  · refine .inr ⟨by simp [hc], ?_⟩
    have : ∃ k, bt x k = true ∧ bt (b j) k = false := by
      refine Classical.byContradiction fun hn => hc (or_same.2 (fun k hk => ?_))
      cases hb : bt (b j) k with
      | true => rfl
      | false => exact absurd ⟨k, hk, hb⟩ hn
    obtain ⟨k, h1, h2⟩ := this
    have := mb_lt (a := b) (b := updN b j (b j ||| x)) Sub.upd hj (hx k h1) (by rw [updN_same, bt_or, h1]; simp) h2
    have := mb_mono hS
    omega

/-- a function that is another one below n. -/
def mixN {α : Type} (n : Nat) (f g : Nat → α) : Nat → α := fun o => if o < n then f o else g o
theorem mixN_0 {α : Type} (f g : Nat → α) : mixN 0 f g = g := by funext o; simp [mixN]
theorem mixN_at {α : Type} {n : Nat} (f g : Nat → α) : mixN n f g n = g n := by simp [mixN]
theorem mixN_succ {α : Type} {n : Nat} (f g : Nat → α) : updN (mixN n f g) n (f n) = mixN (n + 1) f g := by
  funext o
  simp only [mixN, updN]
  by_cases h : o = n
  · subst h; simp
  · by_cases h2 : o < n
    · rw [if_neg h, if_pos h2, if_pos (by omega)]
    · rw [if_neg h, if_neg h2, if_neg (by omega)]
theorem mixN_skip {α : Type} {n m : Nat} {f g : Nat → α} (h : n ≤ m) (he : ∀ o, n ≤ o → o < m → f o = g o) : mixN n f g = mixN m f g := by
  funext o
  simp only [mixN]
  by_cases h1 : o < n
  · rw [if_pos h1, if_pos (by omega)]
  · by_cases h2 : o < m
    · rw [if_neg h1, if_pos h2, he o (by omega) h2]
    · rw [if_neg h1, if_neg h2]
theorem mixN_all {α : Type} {n : Nat} {f g : Nat → α} (h : ∀ o, n ≤ o → f o = g o) : mixN n f g = f := by
  funext o
  simp only [mixN]
  split
  · rfl
  · rw [h o (by omega)]

/-- the first below n, if any. -/
def fstN (P : Nat → Bool) : Nat → Option Nat
  | 0 => none
  | n + 1 => match fstN P n with
    | some k => some k
    | none => if P n then some n else none
theorem fstN_none {P : Nat → Bool} : ∀ {n : Nat}, fstN P n = none ↔ ∀ k, k < n → P k = false
  | 0 => by simp [fstN]
  | n + 1 => by
    have ih := fstN_none (P := P) (n := n)
    simp only [fstN]
    cases h : fstN P n with
    | some k =>
      simp only [reduceCtorEq, false_iff]
      intro hh
      have := ih.2 (fun k hk => hh k (by omega))
      rw [h] at this; exact absurd this (by simp)
    | none =>
      have h' := ih.1 h
      cases hp : P n with
      | true => simp; exact ⟨n, by omega, hp⟩
      | false =>
        simp
        intro k hk
        by_cases e : k = n
        · rw [e]; exact hp
        · exact h' k (by omega)
theorem fstN_some {P : Nat → Bool} {k : Nat} : ∀ {n : Nat}, fstN P n = some k ↔ k < n ∧ P k = true ∧ ∀ j, j < k → P j = false
  | 0 => by simp [fstN]
  | n + 1 => by
    have ih := fstN_some (P := P) (k := k) (n := n)
    simp only [fstN]
    cases h : fstN P n with
    | some j =>
      rw [h] at ih
      constructor
      · intro e
        have := ih.1 (by simpa using e)
        exact ⟨by omega, this.2⟩
      · rintro ⟨hk, hp, hj⟩
        by_cases e : k = n
        · exfalso
          have hn : fstN P n = none := fstN_none.2 (fun i hi => hj i (by omega))
          rw [h] at hn; exact absurd hn (by simp)
        · simpa using ih.2 ⟨by omega, hp, hj⟩
    | none =>
      have h' := fstN_none.1 h
      cases hp : P n with
      | true =>
        simp only [if_true, Option.some.injEq]
        constructor
        · rintro rfl; exact ⟨by omega, hp, h'⟩
        · rintro ⟨hk, hpk, hj⟩
          rcases Nat.lt_or_ge k n with hl | hl
          · rw [h' k hl] at hpk; exact absurd hpk (by simp)
          · omega
      | false =>
        simp only [Bool.false_eq_true, if_false, reduceCtorEq, false_iff]
        rintro ⟨hk, hpk, hj⟩
        rcases Nat.lt_or_ge k n with hl | hl
        · rw [h' k hl] at hpk; exact absurd hpk (by simp)
        · have : k = n := by omega
          rw [this, hp] at hpk; exact absurd hpk (by simp)
/-- as the programs answer it. -/
def oI (x : Option Nat) : Int32 := match x with
  | some k => I k
  | none => -1
end
section
section
variable (c ins : Nat) (row : Nat → Int32)

/-- nothing that is in no set yet hangs on a. -/
def fre (so : Nat → Nat) (a : Nat) : Bool := (fstN (fun e => decide (so e = 0) && bt (row e) a) c).isNone
/-- which side a set takes. -/
def sid (v a : Nat) : Bool := decide (ins ≤ a) == decide (v % 2 = 1)

def oPsN (v : Nat) : Nat → (Nat → Nat) → Nat → Nat
  | 0, so => so
  | n + 1, so => if oPsN v n so n = 0 ∧ sid ins v n = true ∧ fre c row (oPsN v n so) n = true then updN (oPsN v n so) n v else oPsN v n so

def oPsK (v : Nat) (so : Nat → Nat) : Nat → Nat → Nat
  | 0 => so
  | k + 1 => oPsN c ins row v c (oPsK v so k)

def Fil (v : Nat) (so so' : Nat → Nat) : Prop := oPsN c ins row v c so' = so' ∧ ∃ k, so' = oPsK c ins row v so k

def Sts : Nat → (Nat → Nat) → Prop
  | 0, so => so = fun _ => 0
  | j + 1, so' => ∃ so, Sts j so ∧ (∃ a, a < c ∧ so a = 0) ∧ Fil c ins row (j + 1) so so'

def IsOrd (sets : Nat) (so : Nat → Nat) : Prop := Sts c ins row sets so ∧ ∀ a, a < c → so a ≠ 0
end

section
variable {c ins : Nat} {row : Nat → Int32}

theorem oPsK_fix {v so k} (h : oPsN c ins row v c (oPsK c ins row v so k) = oPsK c ins row v so k) : ∀ m, k ≤ m → oPsK c ins row v so m = oPsK c ins row v so k := by
  intro m hm
  induction m with
  | zero => have : k = 0 := by omega
            rw [this]
  | succ m ih =>
    by_cases e : k = m + 1
    · rw [e]
    · have := ih (by omega)
      show oPsN c ins row v c (oPsK c ins row v so m) = _
      rw [this, h]

theorem Fil.unique {v so a b} (ha : Fil c ins row v so a) (hb : Fil c ins row v so b) : a = b := by
  obtain ⟨fa, k, rfl⟩ := ha
  obtain ⟨fb, m, rfl⟩ := hb
  rcases Nat.le_total k m with h | h
  · exact (oPsK_fix fa m h).symm
  · exact oPsK_fix fb k h

theorem Sts.zero : Sts c ins row 0 (fun _ => 0) := rfl
theorem Sts.succ {j so so'} (h1 : Sts c ins row j so) (h2 : ∃ a, a < c ∧ so a = 0) (h3 : Fil c ins row (j + 1) so so') : Sts c ins row (j + 1) so' := ⟨so, h1, h2, h3⟩
theorem Sts.unique : ∀ {j a b}, Sts c ins row j a → Sts c ins row j b → a = b
  | 0, _, _, h1, h2 => h1.trans h2.symm
  | j + 1, _, _, ⟨_, h1, _, f1⟩, ⟨_, h2, _, f2⟩ => by
    have := Sts.unique h1 h2
    subst this
    exact f1.unique f2

theorem Sts.down : ∀ {j so}, Sts c ins row j so → ∀ i, i < j → ∃ so', Sts c ins row i so' ∧ ∃ a, a < c ∧ so' a = 0
  | 0, _, _, i, hi => by omega
  | j + 1, _, ⟨so, h1, he, f⟩, i, hi => by
    by_cases e : i = j
    · subst e; exact ⟨so, h1, he⟩
    · exact Sts.down h1 i (by omega)

theorem IsOrd.unique {m n a b} (ha : IsOrd c ins row m a) (hb : IsOrd c ins row n b) : m = n ∧ a = b := by
  have key : ∀ {m n a b}, IsOrd c ins row m a → IsOrd c ins row n b → ¬ m < n := by
    intro m n a b ha hb hlt
    obtain ⟨so, hs, x, hx, h0⟩ := hb.1.down m hlt
    have := ha.1.unique hs
    subst this
    exact ha.2 x hx h0
  have e : m = n := by
    have h1 := key ha hb
    have h2 := key hb ha
    omega
  subst e
  exact ⟨rfl, ha.1.unique hb.1⟩

/-- how many are in no set. -/
def zer (c : Nat) (so : Nat → Nat) : Nat := ((List.range c).filter (fun a => decide (so a = 0))).length

theorem zer_le (c : Nat) (so : Nat → Nat) : zer c so ≤ c := by
  have := List.length_filter_le (fun a => decide (so a = 0)) (List.range c)
  simpa [zer] using this

/-- what is in a set stays there. -/
def Mor (a b : Nat → Nat) : Prop := ∀ x, a x ≠ 0 → b x = a x
theorem Mor.refl (a) : Mor a a := fun _ _ => rfl
theorem Mor.trans {a b d} (h : Mor a b) (g : Mor b d) : Mor a d := fun x hx => by
  have h1 := h x hx
  rw [g x (by rw [h1]; exact hx), h1]

theorem Mor.upd {a : Nat → Nat} {n v : Nat} (h : a n = 0) : Mor a (updN a n v) := by
  intro x hx
  have : x ≠ n := fun e => hx (e ▸ h)
  exact updN_ne _ _ this

theorem oPsN_mor {v} : ∀ n so, Mor so (oPsN c ins row v n so)
  | 0, so => Mor.refl _
  | n + 1, so => by
    simp only [oPsN]
    split
    · next h => exact (oPsN_mor n so).trans (Mor.upd h.1)
    · exact oPsN_mor n so

theorem oPsK_mor {v so} : ∀ k, Mor so (oPsK c ins row v so k)
  | 0 => Mor.refl _
  | k + 1 => (oPsK_mor k).trans (oPsN_mor c _)

theorem Mor.zerLe {a b : Nat → Nat} (h : Mor a b) (c : Nat) : zer c b ≤ zer c a := by
  refine filt_le _ _ _ (fun x _ hx => ?_)
  simp only [decide_eq_true_eq] at hx ⊢
  exact Classical.byContradiction fun hn => hn (by rw [h x hn] at hx; exact hx)

theorem Mor.zer_lt {a b : Nat → Nat} (h : Mor a b) {c x : Nat} (hx : x < c) (ha : a x = 0) (hb : b x ≠ 0) : zer c b < zer c a := by
  refine filt_lt _ _ _ (fun x _ hx => ?_) ⟨x, by simpa using hx, by simpa using ha, by simpa using hb⟩
  simp only [decide_eq_true_eq] at hx ⊢
  exact Classical.byContradiction fun hn => hn (by rw [h x hn] at hx; exact hx)

/-- a pass that leaves the count leaves all. -/
theorem oPsN_same {v} (hv : v ≠ 0) : ∀ n, n ≤ c → ∀ so, zer c (oPsN c ins row v n so) = zer c so → oPsN c ins row v n so = so
  | 0, _, so, _ => rfl
  | n + 1, hn, so, h => by
    have h1 := (oPsN_mor (c := c) (ins := ins) (row := row) (v := v) n so).zerLe c
    simp only [oPsN] at h ⊢
    split at h
    · next hc =>
      have h2 := (Mor.upd (v := v) hc.1).zer_lt (c := c) (x := n) (by omega) hc.1 (by rw [updN_same]; exact hv)
      omega
    · next hc =>
      rw [if_neg hc]
      exact oPsN_same hv n (by omega) so h

theorem fre_iff {so : Nat → Nat} {a : Nat} : fre c row so a = true ↔ ∀ e, e < c → so e = 0 → bt (row e) a = false := by
  unfold fre
  rw [Option.isNone_iff_eq_none, fstN_none]
  constructor
  · intro h e he h0
    have := h e he
    simpa [h0] using this
  · intro h e he
    by_cases h0 : so e = 0
    · simp [h0, h e he h0]
    · simp [h0]

theorem fre_mono {a b : Nat → Nat} (h : Mor a b) {x : Nat} (hf : fre c row a x = true) : fre c row b x = true := by
  rw [fre_iff] at hf ⊢
  intro e he h0
  exact hf e he (Classical.byContradiction fun hn => hn (by rw [h e hn] at h0; exact h0))

/-- one that is free on the side is taken by a pass. -/
theorem oPsN_takes {v x : Nat} (hv : v ≠ 0) (hs : sid ins v x = true) {so : Nat → Nat} (hf : fre c row so x = true) : ∀ n, x < n → oPsN c ins row v n so x ≠ 0
  | n + 1, hx => by
    by_cases e : x = n
    · subst e
      simp only [oPsN]
      have hf' := fre_mono (oPsN_mor (c := c) (ins := ins) (row := row) (v := v) x so) hf
      split
      · rw [updN_same]; exact hv
      · next hc => exact fun h0 => hc ⟨h0, hs, hf'⟩
    · have ih := oPsN_takes hv hs hf n (by omega)
      have hm : Mor (oPsN c ins row v n so) (oPsN c ins row v (n + 1) so) := by
        simp only [oPsN]
        split
        · next h => exact Mor.upd h.1
        · exact Mor.refl _
      rw [hm x ih]; exact ih

theorem oPsN_lt {v} {so : Nat → Nat} : ∀ n x, n ≤ x → oPsN c ins row v n so x = so x
  | 0, _, _ => rfl
  | n + 1, x, h => by
    simp only [oPsN]
    split
    · rw [updN_ne _ _ (by omega)]; exact oPsN_lt n x (by omega)
    · exact oPsN_lt n x (by omega)

theorem oPsN_val {v} {so : Nat → Nat} {x : Nat} : ∀ n, oPsN c ins row v n so x = so x ∨ oPsN c ins row v n so x = v
  | 0 => .inl rfl
  | n + 1 => by
    simp only [oPsN]
    split
    · by_cases e : x = n
      · right; rw [e, updN_same]
      · rw [updN_ne _ _ e]; exact oPsN_val n
    · exact oPsN_val n

theorem oPsK_val {v} {so : Nat → Nat} {x : Nat} : ∀ k, oPsK c ins row v so k x = so x ∨ oPsK c ins row v so k x = v
  | 0 => .inl rfl
  | k + 1 => by
    rcases oPsN_val (c := c) (ins := ins) (row := row) (v := v) (so := oPsK c ins row v so k) (x := x) c with h | h
    · rcases oPsK_val (x := x) k with h' | h'
      · left; show oPsN c ins row v c _ x = _; rw [h, h']
      · right; show oPsN c ins row v c _ x = _; rw [h, h']
    · right; exact h

theorem Sts.le : ∀ {j so}, Sts c ins row j so → ∀ x, so x ≤ j
  | 0, _, h, x => by
    have e : _ = _ := h
    rw [e]; exact Nat.le_refl _
  | j + 1, _, ⟨so, h1, _, f⟩, x => by
    obtain ⟨_, k, rfl⟩ := f
    rcases oPsK_val (c := c) (ins := ins) (row := row) (v := j + 1) (so := so) (x := x) k with h | h
    · rw [h]; have := Sts.le h1 x; omega
    · rw [h]; exact Nat.le_refl _

/-- what there must be of what is induced, for sets to come to an end. -/
def Acy (c : Nat) (row : Nat → Int32) : Prop :=
  (∀ a, a < c → bt (row a) a = false) ∧
  (∀ a b d, a < c → b < c → bt (row a) b = true → bt (row b) d = true → bt (row a) d = true)
theorem Acy.irr {c : Nat} {row : Nat → Int32} (h9 : Acy c row) : ∀ a, a < c → bt (row a) a = false := h9.1
theorem Acy.tr {c : Nat} {row : Nat → Int32} (h9 : Acy c row) : ∀ a b d, a < c → b < c → bt (row a) b = true → bt (row b) d = true → bt (row a) d = true := h9.2

/-- among those in no set one is free. -/
theorem Acy.free (A : Acy c row) {so : Nat → Nat} (h : ∃ a, a < c ∧ so a = 0) : ∃ a, a < c ∧ so a = 0 ∧ fre c row so a = true := by
  -- go up from a: those in no set that hang on it are ever fewer
  have key : ∀ n a, a < c → so a = 0 → ((List.range c).filter (fun e => decide (so e = 0) && bt (row e) a)).length ≤ n → ∃ a, a < c ∧ so a = 0 ∧ fre c row so a = true := by
    intro n
    induction n with
    | zero =>
      intro a ha h0 hn
      refine ⟨a, ha, h0, fre_iff.2 (fun e he h0' => ?_)⟩
      cases hb : bt (row e) a with
      | false => rfl
      | true =>
        have : e ∈ (List.range c).filter (fun e => decide (so e = 0) && bt (row e) a) := List.mem_filter.2 ⟨by simpa using he, by simp [h0', hb]⟩
        have := List.length_pos_of_mem this
        omega
    | succ n ih =>
      intro a ha h0 hn
      by_cases hf : fre c row so a = true
      · exact ⟨a, ha, h0, hf⟩
      · have : ∃ e, e < c ∧ so e = 0 ∧ bt (row e) a = true := by
          refine Classical.byContradiction fun hne => hf (fre_iff.2 (fun e he h0' => ?_))
          cases hb : bt (row e) a with
          | false => rfl
          | true => exact absurd ⟨e, he, h0', hb⟩ hne
        obtain ⟨e, he, h0', hb⟩ := this
        refine ih e he h0' ?_
        have := filt_lt (fun x => decide (so x = 0) && bt (row x) e) (fun x => decide (so x = 0) && bt (row x) a) (List.range c)
          (fun x hx hp => by
            simp only [Bool.and_eq_true, decide_eq_true_eq] at hp ⊢
            exact ⟨hp.1, A.tr x e a (by simpa using hx) he hp.2 hb⟩)
          ⟨e, by simpa using he, by simp [h0', hb], by simp [A.irr e he]⟩
        omega
  obtain ⟨a, ha, h0⟩ := h
  exact key _ a ha h0 (Nat.le_refl _)

/-- what the sets have yet before them. -/
noncomputable def ordM (c ins : Nat) (row : Nat → Int32) (j : Nat) (so : Nat → Nat) : Nat :=
  2 * zer c so + @ite Nat (∃ a, a < c ∧ so a = 0 ∧ fre c row so a = true ∧ sid ins (j + 1) a = true) (Classical.propDecidable _) 0 1

theorem ordM_lt (A : Acy c row) {j so so'} (h : ∃ a, a < c ∧ so' a = 0) (f : Fil c ins row (j + 1) so so') : ordM c ins row (j + 1) so' < ordM c ins row j so := by
  have hm : Mor so so' := by obtain ⟨_, k, rfl⟩ := f; exact oPsK_mor k
  have hz := hm.zerLe c
  unfold ordM
  by_cases hc : ∃ a, a < c ∧ so a = 0 ∧ fre c row so a = true ∧ sid ins (j + 1) a = true
  · obtain ⟨a, ha, h0, hf, hs⟩ := hc
    have hne : so' a ≠ 0 := by
      rw [← f.1]
      exact oPsN_takes (by omega) hs (fre_mono hm hf) c ha
    have := hm.zer_lt ha h0 hne
    split <;> split <;> omega
  · rw [if_neg hc]
    obtain ⟨a, ha, h0, hf⟩ := A.free h
    have h0' : so a = 0 := Classical.byContradiction fun hn => hn (by rw [hm a hn] at h0; exact h0)
    have hns : sid ins (j + 1) a = false := by
      cases hs : sid ins (j + 1) a with
      | false => rfl
      | true =>
        exfalso
        have := oPsN_takes (v := j + 1) (by omega) hs hf c ha
        rw [f.1] at this; exact this h0
    have hs2 : sid ins (j + 1 + 1) a = true := by
      simp only [sid] at hns ⊢
      have e : decide ((j + 1 + 1) % 2 = 1) = !decide ((j + 1) % 2 = 1) := by
        by_cases hh : (j + 1) % 2 = 1
        · have : ¬ (j + 1 + 1) % 2 = 1 := by omega
          simp [hh, this]
        · have : (j + 1 + 1) % 2 = 1 := by omega
          simp [hh, this]
      rw [e]
      revert hns
      cases decide (ins ≤ a) <;> cases decide ((j + 1) % 2 = 1) <;> simp
    rw [if_pos ⟨a, ha, h0, hf, hs2⟩]
    omega

theorem Sts.bound (A : Acy c row) : ∀ {j so}, Sts c ins row j so → (∃ a, a < c ∧ so a = 0) → j + ordM c ins row j so ≤ 2 * c + 1
  | 0, so, _, _ => by
    have := zer_le c so
    unfold ordM
    split <;> omega
  | j + 1, so', ⟨so, h1, he, f⟩, h => by
    have := Sts.bound A h1 he
    have := ordM_lt A h f
    omega

theorem IsOrd.bound (A : Acy c row) {n so} (h : IsOrd c ins row n so) : n ≤ 2 * c + 1 := by
  cases n with
  | zero => omega
  | succ j =>
    obtain ⟨s0, h1, he, f⟩ := h.1
    have := h1.bound A he
    have : 1 ≤ ordM c ins row j s0 := by
      unfold ordM
      obtain ⟨a, ha, h0⟩ := he
      have : 0 < zer c s0 := List.length_pos_of_mem (a := a) (List.mem_filter.2 ⟨by simpa using ha, by simpa using h0⟩)
      split <;> omega
    omega
end
section
variable {c ins : Nat} {row : Nat → Int32}
theorem oPsK_shift {v : Nat} {so : Nat → Nat} : ∀ k, oPsK c ins row v (oPsN c ins row v c so) k = oPsK c ins row v so (k + 1)
  | 0 => rfl
  | k + 1 => by
    show oPsN c ins row v c (oPsK c ins row v (oPsN c ins row v c so) k) = oPsN c ins row v c (oPsK c ins row v so (k + 1))
    rw [oPsK_shift k]

theorem Fil.exists {v : Nat} (hv : v ≠ 0) : ∀ n (so : Nat → Nat), zer c so ≤ n → ∃ so', Fil c ins row v so so'
  | n, so, h => by
    by_cases hz : zer c (oPsN c ins row v c so) = zer c so
    · exact ⟨so, oPsN_same hv c (Nat.le_refl _) so hz, 0, rfl⟩
    · have hle := (oPsN_mor (c := c) (ins := ins) (row := row) (v := v) c so).zerLe c
      match n with
      | 0 => omega
      | n + 1 =>
        obtain ⟨so', hf, k, hk⟩ := Fil.exists hv n (oPsN c ins row v c so) (by omega)
        exact ⟨so', hf, k + 1, by rw [hk, oPsK_shift]⟩

theorem ord_exists (A : Acy c row) : ∃ n so, IsOrd c ins row n so := by
  have key : ∀ m j so, Sts c ins row j so → ordM c ins row j so ≤ m → ∃ n so, IsOrd c ins row n so := by
    intro m
    induction m with
    | zero =>
      intro j so hs hm
      by_cases hex : ∃ a, a < c ∧ so a = 0
      · exfalso
        obtain ⟨a, ha, h0⟩ := hex
        have : 0 < zer c so := List.length_pos_of_mem (a := a) (List.mem_filter.2 ⟨by simpa using ha, by simpa using h0⟩)
        unfold ordM at hm
        split at hm <;> omega
      · exact ⟨j, so, hs, fun a ha h0 => hex ⟨a, ha, h0⟩⟩
    | succ m ih =>
      intro j so hs hm
      by_cases hex : ∃ a, a < c ∧ so a = 0
      · obtain ⟨so', hf⟩ := Fil.exists (c := c) (ins := ins) (row := row) (v := j + 1) (by omega) _ so (Nat.le_refl _)
        have hs' := Sts.succ hs hex hf
        by_cases hex' : ∃ a, a < c ∧ so' a = 0
        · have := ordM_lt A hex' hf
          exact ih (j + 1) so' hs' (by omega)
        · exact ⟨j + 1, so', hs', fun a ha h0 => hex' ⟨a, ha, h0⟩⟩
      · exact ⟨j, so, hs, fun a ha h0 => hex ⟨a, ha, h0⟩⟩
  exact key _ 0 _ Sts.zero (Nat.le_refl _)
end
/-- visits out of sets. -/
def visN (sets : Nat) : Nat := if sets = 0 then 1 else (sets + 1) / 2
def visO (sets x : Nat) : Nat := visN sets - (x + 1) / 2 + 1

noncomputable def ordOf (c ins : Nat) (row : Nat → Int32) : Nat × (Nat → Nat) :=
  @dite (Nat × (Nat → Nat)) (∃ q : Nat × (Nat → Nat), IsOrd c ins row q.1 q.2) (Classical.propDecidable _) (fun h => h.choose) (fun _ => (0, fun _ => 0))

theorem ordOf_eq {c ins row n so} (h : IsOrd c ins row n so) : ordOf c ins row = (n, so) := by
  have hx : ∃ q : Nat × (Nat → Nat), IsOrd c ins row q.1 q.2 := ⟨(n, so), h⟩
  unfold ordOf
  rw [dif_pos hx]
  have := IsOrd.unique hx.choose_spec h
  exact Prod.ext this.1 this.2

/-- how many visits a symbol has, in which an attribute is. -/
noncomputable def Gv.vs (G : Gv) (ind : Nat → Int32) (s : Nat) : Nat := visN (ordOf (G.cnt s) (G.ins s) (fun a => ind (8 * s + a))).1
noncomputable def Gv.vo (G : Gv) (ind : Nat → Int32) (s a : Nat) : Nat :=
  visO (ordOf (G.cnt s) (G.ins s) (fun a => ind (8 * s + a))).1 ((ordOf (G.cnt s) (G.ins s) (fun a => ind (8 * s + a))).2 a)
end
section
variable {G : Gv}

theorem Sub.antisymm {a b : Nat → Int32} (h : Sub a b) (g : Sub b a) : a = b := by
  funext i
  apply bt_ext
  intro k _
  have h1 := h i k
  have h2 := g i k
  cases ha : bt (a i) k <;> cases hb : bt (b i) k <;> simp_all

theorem Gv.indR_le {ind : Nat → Int32} {n : Nat} : ∀ m, n ≤ m → Sub (G.indR ind n) (G.indR ind m) := by
  intro m hm
  induction m with
  | zero => have : n = 0 := by omega
            rw [this]; exact Sub.refl _
  | succ m ih =>
    by_cases e : n = m + 1
    · rw [e]; exact Sub.refl _
    · exact (ih (by omega)).trans (Gv.indN_sub 32)

theorem Gv.indN_le {p : Nat} {rows ind : Nat → Int32} {n : Nat} : ∀ m, n ≤ m → Sub (G.indN p rows n ind) (G.indN p rows m ind) := by
  intro m hm
  induction m with
  | zero => have : n = 0 := by omega
            rw [this]; exact Sub.refl _
  | succ m ih =>
    by_cases e : n = m + 1
    · rw [e]; exact Sub.refl _
    · refine (ih (by omega)).trans ?_
      simp only [Gv.indN]
      split
      · exact Sub.upd
      · exact Sub.refl _

theorem Gv.IsInd.rfix {ind : Nat → Int32} (h : G.IsInd ind) {n : Nat} (hn : n ≤ G.nP) : G.indR ind n = ind :=
  Sub.antisymm (by have := Gv.indR_le (G := G) (ind := ind) G.nP hn; rw [h.1] at this; exact this) (Gv.indR_sub n)

theorem Gv.IsInd.pfix {ind : Nat → Int32} (h : G.IsInd ind) {p : Nat} (hp : p < G.nP) : G.indP ind p = ind := by
  have h1 := h.rfix (show p + 1 ≤ G.nP from hp)
  simp only [Gv.indR] at h1
  rw [h.rfix (Nat.le_of_lt hp)] at h1; exact h1

theorem Gv.IsInd.step {ind : Nat → Int32} (h : G.IsInd ind) {p o k : Nat} (hp : p < G.nP) (ho : G.oc p o) (hk : k < 8)
    (hb : bt (clo (G.rI ind p) o) (8 * (o / 8) + k) = true) : bt (ind (8 * G.sy p (o / 8) + o % 8)) k = true := by
  have h0 := h.pfix hp
  have h1 : G.indN p (clo (G.rI ind p)) (o + 1) ind = ind :=
    Sub.antisymm (by have := Gv.indN_le (G := G) (p := p) (rows := clo (G.rI ind p)) (ind := ind) 32 (show o + 1 ≤ 32 from ho.1); rw [show G.indN p (clo (G.rI ind p)) 32 ind = ind from h0] at this; exact this) (Gv.indN_sub _)
  have h2 : G.indN p (clo (G.rI ind p)) o ind = ind :=
    Sub.antisymm (by have := Gv.indN_le (G := G) (p := p) (rows := clo (G.rI ind p)) (ind := ind) 32 (show o ≤ 32 from Nat.le_of_lt ho.1); rw [show G.indN p (clo (G.rI ind p)) 32 ind = ind from h0] at this; exact this) (Gv.indN_sub _)
  simp only [Gv.indN, h2] at h1
  rw [if_pos ho] at h1
  have := congrFun h1 (8 * G.sy p (o / 8) + o % 8)
  rw [updN_same] at this
  refine or_same.1 this k ?_
  rw [its_bt ho.1, hb]; simp [hk]

theorem Gv.indK_zero (W : G.WF) {s a : Nat} (hs : s < G.nS) (ha : a < 8) (hn : ∀ p k, p < G.nP → k ≤ G.kn p → G.sy p k ≠ s) : ∀ k, G.indK k (8 * s + a) = 0 := by
  have hN : ∀ p rows ind n, p < G.nP → ind (8 * s + a) = 0 → G.indN p rows n ind (8 * s + a) = 0 := by
    intro p rows ind n hp h0
    induction n with
    | zero => exact h0
    | succ n ih =>
      simp only [Gv.indN]
      split
      · next hc =>
        have h1 := hn p (n / 8) hp hc.2.1
        have h2 := hc.2.2
        have h3 := W.cnt8 (W.ocS hp hc)
        rw [updN_ne _ _ (by omega)]; exact ih
      · exact ih
  have hR : ∀ ind n, n ≤ G.nP → ind (8 * s + a) = 0 → G.indR ind n (8 * s + a) = 0 := by
    intro ind n hnp h0
    induction n with
    | zero => exact h0
    | succ n ih => exact hN n _ _ 32 hnp (ih (by omega))
  intro k
  induction k with
  | zero => rfl
  | succ k ih => exact hR _ _ (Nat.le_refl _) ih

theorem Gv.indK_big (W : G.WF) {i : Nat} (hi : 64 ≤ i) : ∀ k, G.indK k i = 0 := by
  have hS := W.nS
  have hN : ∀ p rows ind n, p < G.nP → ind i = 0 → G.indN p rows n ind i = 0 := by
    intro p rows ind n hp h0
    induction n with
    | zero => exact h0
    | succ n ih =>
      simp only [Gv.indN]
      split
      · next hc =>
        have h2 := hc.2.2
        have h3 := W.ocS hp hc
        have h4 := W.cnt8 h3
        rw [updN_ne _ _ (by omega)]; exact ih
      · exact ih
  have hR : ∀ ind n, n ≤ G.nP → ind i = 0 → G.indR ind n i = 0 := by
    intro ind n hnp h0
    induction n with
    | zero => exact h0
    | succ n ih => exact hN n _ _ 32 hnp (ih (by omega))
  intro k
  induction k with
  | zero => rfl
  | succ k ih => exact hR _ _ (Nat.le_refl _) ih

theorem Gv.IsInd.big (W : G.WF) {ind : Nat → Int32} (h : G.IsInd ind) {i : Nat} (hi : 64 ≤ i) : ind i = 0 := by
  obtain ⟨_, k, rfl⟩ := h
  exact Gv.indK_big W hi k

/-- the row of an occ has what is induced. -/
theorem Gv.rI_bt {ind : Nat → Int32} {p o : Nat} (ho : G.oc p o) {k : Nat} (hk : k < 8) (hb : bt (ind (8 * G.sy p (o / 8) + o % 8)) k = true) : Rw (G.rI ind p) o (8 * (o / 8) + k) := by
  have h32 := ho.1
  refine ⟨h32, ?_⟩
  simp only [Gv.rI, Gv.addI]
  rw [if_pos ho, bt_or, bt_shl _ (by omega), show 8 * (o / 8) + k - 8 * (o / 8) = k by omega, hb]
  have h1 : 8 * (o / 8) + k < 32 := by omega
  have h2 : ¬ 8 * (o / 8) + k < 8 * (o / 8) := by omega
  simp [h1, h2]

theorem Gv.IsInd.tr (W : G.WF) {ind : Nat → Int32} (h : G.IsInd ind) {s a b d : Nat} (hs : s < G.nS) (ha : a < G.cnt s) (hb : b < G.cnt s)
    (hd : d < 8) (h1 : bt (ind (8 * s + a)) b = true) (h2 : bt (ind (8 * s + b)) d = true) : bt (ind (8 * s + a)) d = true := by
  have hc := W.cnt8 hs
  by_cases hx : ∃ p k, p < G.nP ∧ k ≤ G.kn p ∧ G.sy p k = s
  · obtain ⟨p, k, hp, hk, rfl⟩ := hx
    have hk3 := W.kn p hp
    have ea : (8 * k + a) / 8 = k ∧ (8 * k + a) % 8 = a := by omega
    have eb : (8 * k + b) / 8 = k ∧ (8 * k + b) % 8 = b := by omega
    have oa : G.oc p (8 * k + a) := ⟨by omega, by omega, by rw [ea.1, ea.2]; exact ha⟩
    have ob : G.oc p (8 * k + b) := ⟨by omega, by omega, by rw [eb.1, eb.2]; exact hb⟩
    have r1 := Gv.rI_bt (ind := ind) oa (k := b) (by omega) (by rw [ea.1, ea.2]; exact h1)
    have r2 := Gv.rI_bt (ind := ind) ob (k := d) hd (by rw [eb.1, eb.2]; exact h2)
    rw [ea.1] at r1; rw [eb.1] at r2
    have := h.step hp oa hd ((clo_bt _ oa.1).2 (by rw [ea.1]; exact ⟨_, r1, Rch.one r2⟩))
    rw [ea.1, ea.2] at this; exact this
  · exfalso
    obtain ⟨_, k, rfl⟩ := h
    rw [Gv.indK_zero W hs (by omega) (fun p j hp hj e => hx ⟨p, j, hp, hj, e⟩) k, bt_zero] at h1
    exact absurd h1 (by simp)

theorem Gv.IsInd.lt8 (W : G.WF) {ind : Nat → Int32} (h : G.IsInd ind) {i k : Nat} (hb : bt (ind i) k = true) : k < 8 := by
  obtain ⟨_, n, rfl⟩ := h
  have hN : ∀ p rows ind m, (∀ i k, bt (ind i) k = true → k < 8) → ∀ i k, bt (G.indN p rows m ind i) k = true → k < 8 := by
    intro p rows ind m h0
    induction m with
    | zero => exact h0
    | succ m ih =>
      simp only [Gv.indN]
      split
      · next hc =>
        intro i k hb
        simp only [updN] at hb
        split at hb
        · rw [bt_or, its_bt hc.1] at hb
          simp only [Bool.or_eq_true, Bool.and_eq_true, decide_eq_true_eq] at hb
          rcases hb with hb | hb
          · exact ih _ k hb
          · exact hb.2
        · exact ih i k hb
      · exact ih
  have hR : ∀ ind m, (∀ i k, bt (ind i) k = true → k < 8) → ∀ i k, bt (G.indR ind m i) k = true → k < 8 := by
    intro ind m h0
    induction m with
    | zero => exact h0
    | succ m ih => exact hN m _ _ 32 ih
  have hK : ∀ n i k, bt (G.indK n i) k = true → k < 8 := by
    intro n
    induction n with
    | zero => intro i k hb; simp [Gv.indK, bt_zero] at hb
    | succ n ih => exact hR _ _ ih
  exact hK n i k hb

def fself (r : Nat → Int32) : Option Nat := fstN (fun o => bt (r o) o) 32
/-- whether something of a symbol hangs on itself. -/
def Gv.self (G : Gv) (ind : Nat → Int32) (s : Nat) : Bool := (fstN (fun a => bt (ind (8 * s + a)) a) (G.cnt s)).isSome
def Gv.selfIn (G : Gv) (ind : Nat → Int32) (p : Nat) : Bool := (fstN (fun k => G.self ind (G.sy p k)) (G.kn p + 1)).isSome
theorem Gv.self_false {ind : Nat → Int32} {s : Nat} : G.self ind s = false ↔ ∀ a, a < G.cnt s → bt (ind (8 * s + a)) a = false := by
  unfold Gv.self
  rw [Option.isSome_eq_false_iff, Option.isNone_iff_eq_none, fstN_none]
theorem Gv.IsInd.acy (W : G.WF) {ind : Nat → Int32} (h : G.IsInd ind) {s : Nat} (hs : s < G.nS) (hn : G.self ind s = false) : Acy (G.cnt s) (fun a => ind (8 * s + a)) :=
  ⟨Gv.self_false.1 hn, fun a b d ha hb h1 h2 => h.tr W hs ha hb (h.lt8 W h2) h1 h2⟩
end
section
variable {G : Gv}

/-- bits by what they are. -/
def ofBN (P : Nat → Bool) : Nat → Int32
  | 0 => 0
  | n + 1 => if P n then ofBN P n ||| jshl 1 (I n) else ofBN P n
def ofB (P : Nat → Bool) : Int32 := ofBN P 32

theorem ofBN_bt (P : Nat → Bool) : ∀ n, n ≤ 32 → ∀ k, bt (ofBN P n) k = (decide (k < n) && P k)
  | 0, _, k => by simp [ofBN, bt_zero]
  | n + 1, h, k => by
    have ih := ofBN_bt P n (by omega) k
    simp only [ofBN]
    by_cases e : k = n
    · subst e
      cases hp : P k with
      | true => rw [if_pos rfl, bt_or, ih, bt_1shl (by omega)]; simp
      | false => rw [if_neg (by simp), ih]; simp
    · have h2 : decide (k < n + 1) = decide (k < n) := by
        have : (k < n + 1) = (k < n) := propext (by omega)
        simp [this]
      cases hp : P n with
      | true => rw [if_pos rfl, bt_or, ih, bt_1shl (by omega), h2]; simp [e]
      | false => rw [if_neg (by simp), ih, h2]

theorem ofB_bt (P : Nat → Bool) {k : Nat} (h : k < 32) : bt (ofB P) k = P k := by
  rw [ofB, ofBN_bt P 32 (Nat.le_refl _) k]; simp [h]

/-- an attribute hangs on another by visits. -/
abbrev Gv.hv (G : Gv) (ind : Nat → Int32) (s a b : Nat) : Prop := G.vo ind s b < G.vo ind s a ∨ (G.vo ind s b = G.vo ind s a ∧ G.ins s ≤ a ∧ b < G.ins s)

/-- rows with what visits tell. -/
noncomputable def Gv.rV (G : Gv) (ind : Nat → Int32) (p : Nat) : Nat → Int32 := fun o =>
  G.rI ind p o ||| ofB (fun x => decide (G.oc p o ∧ x / 8 = o / 8 ∧ x % 8 < G.cnt (G.sy p (o / 8)) ∧ G.hv ind (G.sy p (o / 8)) (o % 8) (x % 8)))

/-- ins, outs of a visit of the symbol at a position. -/
noncomputable def Gv.inV (G : Gv) (ind : Nat → Int32) (p at_ v : Nat) : Int32 :=
  ofB (fun x => decide (x / 8 = at_ ∧ x % 8 < G.ins (G.sy p at_) ∧ G.vo ind (G.sy p at_) (x % 8) = v))
noncomputable def Gv.ouV (G : Gv) (ind : Nat → Int32) (p at_ v : Nat) : Int32 :=
  ofB (fun x => decide (x / 8 = at_ ∧ G.ins (G.sy p at_) ≤ x % 8 ∧ x % 8 < G.cnt (G.sy p at_) ∧ G.vo ind (G.sy p at_) (x % 8) = v))

/-- all of a within b. -/
def sub (a b : Int32) : Bool := decide ((a &&& (b ^^^ (-1))) = 0)
theorem sub_iff {a b : Int32} : sub a b = true ↔ ∀ k, bt a k = true → bt b k = true := by
  unfold sub; rw [decide_eq_true_eq, sub0]

/-- the first production that has a circle; that blocks an order. -/
def Gv.cirP (G : Gv) (ind : Nat → Int32) : Option Nat := fstN (fun p => (fself (clo (G.rI ind p))).isSome) G.nP
noncomputable def Gv.blkP (G : Gv) (ind : Nat → Int32) : Option Nat := fstN (fun p => (fself (clo (G.rI ind p))).isSome || (fself (clo (G.rV ind p))).isSome) G.nP

abbrev PSt : Type := Nat × Int32 × (Nat → Nat) × List Int32

/-- the first rule that can be, the first child. -/
def Gv.nxR (G : Gv) (p : Nat) (known : Int32) : Option Nat := fstN (fun o => decide (G.tl p o) && !bt known o && sub (G.ask p o) known) 32
noncomputable def Gv.nxC (G : Gv) (ind : Nat → Int32) (p : Nat) (known : Int32) (went : Nat → Nat) : Option Nat :=
  fstN (fun c => decide (1 ≤ c) && decide (went c ≠ G.vs ind (G.sy p c)) && sub (G.inV ind p c (went c + 1)) known) (G.kn p + 1)

noncomputable def Gv.plS (G : Gv) (ind : Nat → Int32) (p : Nat) (x : PSt) : PSt :=
  if (x.1 < G.vs ind (G.sy p 0) ∧ sub (G.ouV ind p 0 x.1) x.2.1 = true) ∨ (G.nxR p x.2.1 = none ∧ G.nxC ind p x.2.1 x.2.2.1 = none) then
    ⟨x.1 + 1, x.2.1 ||| G.inV ind p 0 (x.1 + 1), x.2.2.1, x.2.2.2 ++ [I (1000 + x.1)]⟩
  else match G.nxR p x.2.1 with
    | some o => ⟨x.1, x.2.1 ||| jshl 1 (I o), x.2.2.1, x.2.2.2 ++ [I (100 + o)]⟩
    | none => match G.nxC ind p x.2.1 x.2.2.1 with
      | some c => ⟨x.1, x.2.1 ||| G.ouV ind p c (x.2.2.1 c + 1), updN x.2.2.1 c (x.2.2.1 c + 1), x.2.2.2 ++ [I (10 * c + (x.2.2.1 c + 1))]⟩
      | none => x

noncomputable def Gv.pl0 (G : Gv) (ind : Nat → Int32) (p : Nat) : PSt := ⟨1, G.inV ind p 0 1, fun _ => 0, []⟩
noncomputable def Gv.plK (G : Gv) (ind : Nat → Int32) (p : Nat) : Nat → PSt
  | 0 => G.pl0 ind p
  | k + 1 => G.plS ind p (G.plK ind p k)

/-- a plan: the state when all visits are past. -/
def Gv.IsPl (G : Gv) (ind : Nat → Int32) (p : Nat) (x : PSt) : Prop :=
  ∃ k, x = G.plK ind p k ∧ G.vs ind (G.sy p 0) < x.1 ∧ ∀ j, j < k → (G.plK ind p j).1 ≤ G.vs ind (G.sy p 0)

theorem Gv.IsPl.unique {ind p x y} (hx : G.IsPl ind p x) (hy : G.IsPl ind p y) : x = y := by
  obtain ⟨k, rfl, h1, h2⟩ := hx
  obtain ⟨m, rfl, h3, h4⟩ := hy
  rcases Nat.lt_trichotomy k m with h | h | h
  · have := h4 k h; omega
  · rw [h]
  · have := h2 m h; omega

/-- what a plan has yet before it. -/
noncomputable def Gv.plM (G : Gv) (ind : Nat → Int32) (p : Nat) (x : PSt) : Nat :=
  (G.vs ind (G.sy p 0) + 1 - x.1) + ((List.range 32).filter (fun o => decide (G.tl p o) && !bt x.2.1 o)).length
    + ((if 1 ≤ G.kn p then G.vs ind (G.sy p 1) - x.2.2.1 1 else 0) + (if 2 ≤ G.kn p then G.vs ind (G.sy p 2) - x.2.2.1 2 else 0) + (if 3 ≤ G.kn p then G.vs ind (G.sy p 3) - x.2.2.1 3 else 0))

/-- what holds of a plan under way. -/
def Gv.PlI (G : Gv) (ind : Nat → Int32) (p : Nat) (x : PSt) : Prop :=
  (1 ≤ x.1) ∧
  (∀ c, 1 ≤ c → c ≤ G.kn p → x.2.2.1 c ≤ G.vs ind (G.sy p c)) ∧
  (∀ c, G.kn p < c → x.2.2.1 c = 0) ∧
  (x.1 ≤ G.vs ind (G.sy p 0) + 1) ∧
  (x.2.2.1 0 = 0)
theorem Gv.PlI.vp {G : Gv} {ind : Nat → Int32} {p : Nat} {x : PSt} (h9 : Gv.PlI G ind p x) : 1 ≤ x.1 := h9.1
theorem Gv.PlI.wt {G : Gv} {ind : Nat → Int32} {p : Nat} {x : PSt} (h9 : Gv.PlI G ind p x) : ∀ c, 1 ≤ c → c ≤ G.kn p → x.2.2.1 c ≤ G.vs ind (G.sy p c) := h9.2.1
theorem Gv.PlI.w0 {G : Gv} {ind : Nat → Int32} {p : Nat} {x : PSt} (h9 : Gv.PlI G ind p x) : ∀ c, G.kn p < c → x.2.2.1 c = 0 := h9.2.2.1
theorem Gv.PlI.vu {G : Gv} {ind : Nat → Int32} {p : Nat} {x : PSt} (h9 : Gv.PlI G ind p x) : x.1 ≤ G.vs ind (G.sy p 0) + 1 := h9.2.2.2.1
theorem Gv.PlI.wz {G : Gv} {ind : Nat → Int32} {p : Nat} {x : PSt} (h9 : Gv.PlI G ind p x) : x.2.2.1 0 = 0 := h9.2.2.2.2

theorem Gv.nxR_iff {p known o} : G.nxR p known = some o ↔ o < 32 ∧ (G.tl p o ∧ bt known o = false ∧ sub (G.ask p o) known = true) ∧ ∀ j, j < o → ¬ (G.tl p j ∧ bt known j = false ∧ sub (G.ask p j) known = true) := by
  unfold Gv.nxR
  rw [fstN_some]
  simp only [Bool.and_eq_true, decide_eq_true_eq, Bool.not_eq_true']
  constructor
  · rintro ⟨h1, h2, h3⟩
    refine ⟨h1, ⟨h2.1.1, h2.1.2, h2.2⟩, fun j hj hh => ?_⟩
    have := h3 j hj
    simp [hh.1, hh.2.1, hh.2.2] at this
  · rintro ⟨h1, h2, h3⟩
    refine ⟨h1, ⟨⟨h2.1, h2.2.1⟩, h2.2.2⟩, fun j hj => ?_⟩
    have := h3 j hj
    cases hh : (decide (G.tl p j) && !bt known j && sub (G.ask p j) known) with
    | false => rfl
    | true =>
      simp only [Bool.and_eq_true, decide_eq_true_eq, Bool.not_eq_true'] at hh
      exact absurd ⟨hh.1.1, hh.1.2, hh.2⟩ this

theorem Gv.nxC_some {ind p known went c} (h : G.nxC ind p known went = some c) : 1 ≤ c ∧ c ≤ G.kn p ∧ went c ≠ G.vs ind (G.sy p c) ∧ sub (G.inV ind p c (went c + 1)) known = true := by
  unfold Gv.nxC at h
  rw [fstN_some] at h
  have := h.2.1
  simp only [Bool.and_eq_true, decide_eq_true_eq] at this
  exact ⟨this.1.1, by omega, this.1.2, this.2⟩

theorem Gv.plS_inv (W : G.WF) {ind p x} (hp : p < G.nP) (h : G.PlI ind p x) (hv : x.1 ≤ G.vs ind (G.sy p 0)) : G.PlI ind p (G.plS ind p x) ∧ G.plM ind p (G.plS ind p x) < G.plM ind p x := by
  have hk3 := W.kn p hp
  unfold Gv.plS
  split
  · refine ⟨⟨by show 1 ≤ x.1 + 1; omega, h.wt, h.w0, by show x.1 + 1 ≤ _; omega, h.wz⟩, ?_⟩
    unfold Gv.plM
    have := filt_le (fun o => decide (G.tl p o) && !bt (x.2.1 ||| G.inV ind p 0 (x.1 + 1)) o) (fun o => decide (G.tl p o) && !bt x.2.1 o) (List.range 32)
      (fun o _ ho => by simp only [bt_or, Bool.and_eq_true, decide_eq_true_eq, Bool.not_eq_true', Bool.or_eq_false_iff] at ho ⊢; exact ⟨ho.1, ho.2.1⟩)
    show (G.vs ind (G.sy p 0) + 1 - (x.1 + 1)) + _ + _ < _
    dsimp only
    omega
  · next hc =>
    cases hr : G.nxR p x.2.1 with
    | some o =>
      refine ⟨⟨h.vp, h.wt, h.w0, h.vu, h.wz⟩, ?_⟩
      obtain ⟨ho, ⟨h1, h2, _⟩, _⟩ := Gv.nxR_iff.1 hr
      unfold Gv.plM
      have := filt_lt (fun j => decide (G.tl p j) && !bt (x.2.1 ||| jshl 1 (I o)) j) (fun o => decide (G.tl p o) && !bt x.2.1 o) (List.range 32)
        (fun o _ ho => by simp only [bt_or, Bool.and_eq_true, decide_eq_true_eq, Bool.not_eq_true', Bool.or_eq_false_iff] at ho ⊢; exact ⟨ho.1, ho.2.1⟩)
        ⟨o, by simpa using ho, by simp [h1, h2], by simp [bt_or, bt_1shl ho]⟩
      dsimp only
      omega
    | none =>
      cases hcx : G.nxC ind p x.2.1 x.2.2.1 with
      | none => exact absurd (.inr ⟨hr, hcx⟩) hc
      | some c =>
        obtain ⟨h1, h2, h3, _⟩ := Gv.nxC_some hcx
        have hw := h.wt c h1 h2
        refine ⟨⟨h.vp, fun d hd hd' => ?_, fun d hd => ?_, h.vu, ?_⟩, ?_⟩
        · simp only [updN]
          split
          · next e => rw [e]; omega
          · exact h.wt d hd hd'
        · show updN x.2.2.1 c (x.2.2.1 c + 1) d = 0
          rw [updN_ne _ _ (by omega)]; exact h.w0 d hd
        · show updN x.2.2.1 c (x.2.2.1 c + 1) 0 = 0
          rw [updN_ne _ _ (by omega)]; exact h.wz
        · unfold Gv.plM
          have := filt_le (fun o => decide (G.tl p o) && !bt (x.2.1 ||| G.ouV ind p c (x.2.2.1 c + 1)) o) (fun o => decide (G.tl p o) && !bt x.2.1 o) (List.range 32)
            (fun o _ ho => by simp only [bt_or, Bool.and_eq_true, decide_eq_true_eq, Bool.not_eq_true', Bool.or_eq_false_iff] at ho ⊢; exact ⟨ho.1, ho.2.1⟩)
          dsimp only
          have hc3 : c = 1 ∨ c = 2 ∨ c = 3 := by omega
          rcases hc3 with rfl | rfl | rfl
          · rw [updN_same, updN_ne _ _ (by decide), updN_ne _ _ (by decide), if_pos h2, if_pos h2]; omega
          · rw [updN_same, updN_ne _ _ (by decide), updN_ne _ _ (by decide), if_pos h2, if_pos h2]; omega
          · rw [updN_same, updN_ne _ _ (by decide), updN_ne _ _ (by decide), if_pos h2, if_pos h2]; omega

theorem Gv.plS_len (W : G.WF) {ind p x} (hp : p < G.nP) : (G.plS ind p x).2.2.2.length ≤ x.2.2.2.length + 1 := by
  unfold Gv.plS
  split
  · simp
  · split
    · simp
    · split
      · simp
      · omega

theorem Gv.pl0_inv {ind p} : G.PlI ind p (G.pl0 ind p) := ⟨Nat.le_refl _, fun _ _ _ => Nat.zero_le _, fun _ _ => rfl, Nat.succ_le_succ (Nat.zero_le _), rfl⟩
theorem visN_le {n : Nat} (h : n ≤ 17) : visN n ≤ 9 := by unfold visN; split <;> omega
theorem visN_pos {n : Nat} : 1 ≤ visN n := by unfold visN; split <;> omega
/-- of what a symbol's visits are: small numbers. -/
def Gv.VB (G : Gv) (ind : Nat → Int32) (s : Nat) : Prop :=
  (1 ≤ G.vs ind s) ∧
  (G.vs ind s ≤ 9) ∧
  (∀ a, a < G.cnt s → 1 ≤ G.vo ind s a) ∧
  (∀ a, a < G.cnt s → G.vo ind s a ≤ G.vs ind s)
theorem Gv.VB.vs1 {G : Gv} {ind : Nat → Int32} {s : Nat} (h9 : Gv.VB G ind s) : 1 ≤ G.vs ind s := h9.1
theorem Gv.VB.vs9 {G : Gv} {ind : Nat → Int32} {s : Nat} (h9 : Gv.VB G ind s) : G.vs ind s ≤ 9 := h9.2.1
theorem Gv.VB.vo1 {G : Gv} {ind : Nat → Int32} {s : Nat} (h9 : Gv.VB G ind s) : ∀ a, a < G.cnt s → 1 ≤ G.vo ind s a := h9.2.2.1
theorem Gv.VB.vo9 {G : Gv} {ind : Nat → Int32} {s : Nat} (h9 : Gv.VB G ind s) : ∀ a, a < G.cnt s → G.vo ind s a ≤ G.vs ind s := h9.2.2.2

theorem Gv.vb_of {ind : Nat → Int32} {s n : Nat} {so : Nat → Nat} (h : IsOrd (G.cnt s) (G.ins s) (fun a => ind (8 * s + a)) n so) (hn : n ≤ 17) : G.VB ind s := by
  have e := ordOf_eq h
  have evs : G.vs ind s = visN n := by simp only [Gv.vs]; rw [e]
  have evo : ∀ a, G.vo ind s a = visO n (so a) := by intro a; simp only [Gv.vo]; rw [e]
  refine ⟨by rw [evs]; exact visN_pos, by rw [evs]; exact visN_le hn, fun a ha => ?_, fun a ha => ?_⟩
  · rw [evo]; unfold visO; omega
  · rw [evo, evs]
    have h0 := h.2 a ha
    have h1 := h.1.le a
    unfold visO visN; split <;> omega

theorem Gv.IsInd.vb (W : G.WF) {ind : Nat → Int32} (h : G.IsInd ind) {s : Nat} (hs : s < G.nS) (hn : G.self ind s = false) : G.VB ind s := by
  have A := h.acy W hs hn
  obtain ⟨n, so, ho⟩ := ord_exists (ins := G.ins s) A
  have := ho.bound A
  have := W.cnt8 hs
  exact Gv.vb_of ho (by omega)
theorem Gv.plK_all (W : G.WF) {ind p} (hp : p < G.nP) : ∀ k, (∀ j, j < k → (G.plK ind p j).1 ≤ G.vs ind (G.sy p 0)) →
    G.PlI ind p (G.plK ind p k) ∧ (G.plK ind p k).2.2.2.length + G.plM ind p (G.plK ind p k) ≤ G.plM ind p (G.pl0 ind p)
  | 0, _ => ⟨Gv.pl0_inv, by show 0 + _ ≤ _; exact Nat.le_of_eq (Nat.zero_add _)⟩
  | k + 1, h => by
    obtain ⟨h1, h2⟩ := Gv.plK_all W hp k (fun j hj => h j (by omega))
    obtain ⟨h3, h4⟩ := Gv.plS_inv W hp h1 (h k (by omega))
    refine ⟨h3, ?_⟩
    have := Gv.plS_len W (ind := ind) (x := G.plK ind p k) hp
    show (G.plS ind p (G.plK ind p k)).2.2.2.length + _ ≤ _
    show _ + G.plM ind p (G.plS ind p (G.plK ind p k)) ≤ _
    omega

theorem Gv.plM0 (W : G.WF) {ind p} (hp : p < G.nP) (hB : ∀ k, k ≤ G.kn p → G.VB ind (G.sy p k)) : G.plM ind p (G.pl0 ind p) ≤ 68 := by
  have h0 := (hB 0 (Nat.zero_le _)).vs9
  have hx : ∀ k, (if k ≤ G.kn p then G.vs ind (G.sy p k) - 0 else 0) ≤ 9 := by
    intro k
    split
    · next e => have := (hB k e).vs9; omega
    · omega
  have h1 := hx 1
  have h2 := hx 2
  have h3 := hx 3
  have := List.length_filter_le (fun o => decide (G.tl p o) && !bt (G.pl0 ind p).2.1 o) (List.range 32)
  simp only [List.length_range] at this
  unfold Gv.plM
  show (G.vs ind (G.sy p 0) + 1 - 1) + _ + ((if 1 ≤ G.kn p then G.vs ind (G.sy p 1) - 0 else 0) + (if 2 ≤ G.kn p then G.vs ind (G.sy p 2) - 0 else 0) + (if 3 ≤ G.kn p then G.vs ind (G.sy p 3) - 0 else 0)) ≤ 68
  omega
end
