/-! plain: ex cn8 cn9 -/
set_option maxRecDepth 100000
section
/-- a code on a pile: own number, values by occs. -/
def stp (own : Int32) (val : Nat → Int32) (st : List Int32) (c : Nat × Nat) : List Int32 :=
  if c.1 = 0 then I c.2 :: st
  else if c.1 = 1 then own :: st
  else if c.1 = 2 then val c.2 :: st
  else if c.1 = 3 then match st with
    | z :: y :: x :: r => (if x = 0 then z else y) :: r
    | _ => st
  else match st with
    | y :: x :: r => jn c.1 x y :: r
    | _ => st
def Ex.run (own : Int32) (val : Nat → Int32) (e : Ex) (st : List Int32) : List Int32 := List.foldl (stp own val) st e
def Ex.val (own : Int32) (val : Nat → Int32) (e : Ex) : Int32 := (Ex.run own val e []).headD 0

theorem Ex.run_app (own : Int32) (val : Nat → Int32) (a b : Ex) (st : List Int32) : Ex.run own val (a ++ b) st = Ex.run own val b (Ex.run own val a st) := List.foldl_append
theorem Ex.run_one (own : Int32) (val : Nat → Int32) (c : Nat × Nat) (st : List Int32) : Ex.run own val [c] st = stp own val st c := rfl
theorem Ex.run_congr {own : Int32} {val val' : Nat → Int32} : ∀ {e : Ex}, (∀ x, (2, x) ∈ e → val x = val' x) → ∀ st, Ex.run own val e st = Ex.run own val' e st
  | [], _, _ => rfl
  | c :: l, h, st => by
    have e1 : stp own val st c = stp own val' st c := by
      unfold stp
      by_cases h2 : c.1 = 2
      · have : val c.2 = val' c.2 := h c.2 (by rw [← h2]; exact List.mem_cons_self)
        rw [this]
      · simp only [h2, if_false]
    show Ex.run own val l (stp own val st c) = Ex.run own val' l (stp own val' st c)
    rw [e1]
    exact Ex.run_congr (fun x hx => h x (List.mem_cons_of_mem _ hx)) _
theorem Ex.val_congr {own : Int32} {val val' : Nat → Int32} {e : Ex} (h : ∀ x, (2, x) ∈ e → val x = val' x) : Ex.val own val e = Ex.val own val' e := by
  unfold Ex.val
  rw [Ex.run_congr h]

theorem Ex.asks_bt : ∀ {e : Ex} {x : Nat}, (2, x) ∈ e → x < 32 → bt (Ex.asks e) x = true
  | [], _, h, _ => absurd h (by simp)
  | (k, v) :: l, x, h, hx => by
    unfold Ex.asks
    rcases List.mem_cons.1 h with e | h'
    · have e1 : k = 2 := (Prod.mk.inj e).1.symm
      have e2 : v = x := (Prod.mk.inj e).2.symm
      subst e1
      subst e2
      rw [if_pos rfl, bt_or, bt_1shl hx]
      simp
    · have ih := Ex.asks_bt h' hx
      split
      · rw [bt_or, ih]; simp
      · exact ih
theorem Ex.asks_app : ∀ (a b : Ex), Ex.asks (a ++ b) = Ex.asks a ||| Ex.asks b
  | [], b => by
    show Ex.asks b = 0 ||| Ex.asks b
    apply bt_ext
    intro k _
    rw [bt_or, bt_zero]; simp
  | (k, v) :: l, b => by
    have ih := Ex.asks_app l b
    show (if k = 2 then jshl 1 (I v) ||| Ex.asks (l ++ b) else Ex.asks (l ++ b)) = (if k = 2 then jshl 1 (I v) ||| Ex.asks l else Ex.asks l) ||| Ex.asks b
    rw [ih]
    split
    · apply bt_ext
      intro j _
      simp only [bt_or, Bool.or_assoc]
    · rfl
theorem Ex.isOwn_app : ∀ (a b : Ex), Ex.isOwn (a ++ b) = (Ex.isOwn a || Ex.isOwn b)
  | [], _ => rfl
  | (k, v) :: l, b => by
    show (decide (k = 1) || Ex.isOwn (l ++ b)) = _
    rw [Ex.isOwn_app l b]
    show _ = ((decide (k = 1) || Ex.isOwn l) || Ex.isOwn b)
    rw [Bool.or_assoc]

/-- how high a pile stands behind it. -/
def Ex.hgt : Ex → Nat → Option Nat
  | [], n => some n
  | (k, _) :: l, n => if k ≤ 2 then Ex.hgt l (n + 1) else if k = 3 then (if 3 ≤ n then Ex.hgt l (n - 2) else none) else if 2 ≤ n then Ex.hgt l (n - 1) else none
def Ex.lv : Ex → Nat
  | [] => 0
  | (k, _) :: l => (if k ≤ 2 then 1 else 0) + Ex.lv l
theorem Ex.hgt_app : ∀ (a b : Ex) (n : Nat), Ex.hgt (a ++ b) n = (Ex.hgt a n).bind (Ex.hgt b)
  | [], _, _ => rfl
  | (k, v) :: l, b, n => by
    show (if k ≤ 2 then Ex.hgt (l ++ b) (n + 1) else if k = 3 then (if 3 ≤ n then Ex.hgt (l ++ b) (n - 2) else none) else if 2 ≤ n then Ex.hgt (l ++ b) (n - 1) else none) = (if k ≤ 2 then Ex.hgt l (n + 1) else if k = 3 then (if 3 ≤ n then Ex.hgt l (n - 2) else none) else if 2 ≤ n then Ex.hgt l (n - 1) else none).bind (Ex.hgt b)
    rw [Ex.hgt_app l b, Ex.hgt_app l b, Ex.hgt_app l b]
    split
    · rfl
    · split
      · split <;> rfl
      · split <;> rfl
theorem Ex.lv_app : ∀ (a b : Ex), Ex.lv (a ++ b) = Ex.lv a + Ex.lv b
  | [], _ => (Nat.zero_add _).symm
  | (k, v) :: l, b => by
    show _ + Ex.lv (l ++ b) = (_ + Ex.lv l) + Ex.lv b
    rw [Ex.lv_app l b, Nat.add_assoc]

/-- rules of a grammar as they are read. -/
def Gv.RL (G : Gv) : Prop :=
  (∀ p o e x, p < G.nP → G.rl p o = some e → (2, x) ∈ e → x < 32) ∧
  (∀ p o e, p < G.nP → G.rl p o = some e → Ex.hgt e 0 = some 1) ∧
  (∀ p o e, p < G.nP → G.rl p o = some e → Ex.lv e ≤ 24)
theorem Gv.RL.occ {G : Gv} (h9 : Gv.RL G) : ∀ p o e x, p < G.nP → G.rl p o = some e → (2, x) ∈ e → x < 32 := h9.1
theorem Gv.RL.hgt {G : Gv} (h9 : Gv.RL G) : ∀ p o e, p < G.nP → G.rl p o = some e → Ex.hgt e 0 = some 1 := h9.2.1
theorem Gv.RL.lv {G : Gv} (h9 : Gv.RL G) : ∀ p o e, p < G.nP → G.rl p o = some e → Ex.lv e ≤ 24 := h9.2.2

variable {G : Gv} {T : Tv}

/-- what the rule of an instance makes of values. -/
def Tv.mk (T : Tv) (G : Gv) (gv : Nat → Int32) (i : Nat) (v : Vl) : Int32 := match T.rA G i with
  | none => gv (i % 8)
  | some q => match G.rl (T.pd q) (T.oO G i) with
    | none => 0
    | some e => Ex.val (T.nu q) (fun o => v (8 * T.atP q (o / 8) + o % 8)) e

theorem Tv.mk_congr (X : T.WF G) (R : G.RL) (gv : Nat → Int32) {i : Nat} (hi : T.is G i) {v w : Vl} (h : ∀ j, T.ed G i j → v j = w j) : T.mk G gv i v = T.mk G gv i w := by
  unfold Tv.mk
  cases hr : T.rA G i with
  | none => rfl
  | some q =>
    simp only
    cases he : G.rl (T.pd q) (T.oO G i) with
    | none => rfl
    | some e =>
      simp only
      refine Ex.val_congr (fun x hx => ?_)
      have hq := X.rAlt hi.1 hr
      have hx32 := R.occ _ _ e x (X.pd q hq) he hx
      refine h _ ⟨hi, x, hx32, ?_, ?_⟩
      · unfold Tv.ask
        rw [hr]
        show bt (G.ask (T.pd q) (T.oO G i)) x = true
        unfold Gv.ask
        rw [he]
        exact Ex.asks_bt hx hx32
      · unfold Tv.oth
        rw [hr]

/-- the structure of a tree's instances. -/
def Tv.ist (T : Tv) (G : Gv) (gv : Nat → Int32) (W : G.WF) (X : T.WF G) (R : G.RL) : Ist :=
  ⟨(8 * T.n, T.is G, T.ed G, T.mk G gv), fun _ h => X.isLt h, fun _ _ h => X.edV W h, fun _ hi _ _ h => T.mk_congr X R gv hi h⟩
end
section
variable {G : Gv} {T : Tv} {L : GA} {A : TA} {x : Nat}

/-- the sign of what joins. -/
def jc (k : Fin 8) : Nat := match k with
  | ⟨0, _⟩ => 43
  | ⟨1, _⟩ => 45
  | ⟨2, _⟩ => 42
  | ⟨3, _⟩ => 124
  | ⟨4, _⟩ => 38
  | ⟨5, _⟩ => 60
  | ⟨6, _⟩ => 4
  | ⟨_, _⟩ => 5
theorem jc_3 (k : Fin 8) : 3 < jc k := by
  revert k; decide
theorem jn_jc (k : Fin 8) (a b : Int32) : jn (jc k) a b = jnk k.val a b := by
  match k with
  | ⟨0, _⟩ => rfl
  | ⟨1, _⟩ => rfl
  | ⟨2, _⟩ => rfl
  | ⟨3, _⟩ => rfl
  | ⟨4, _⟩ => rfl
  | ⟨5, _⟩ => rfl
  | ⟨6, _⟩ =>
    show (if a < b then b else a) = (if b < a then a else b)
    by_cases h1 : a < b
    · rw [if_pos h1, if_neg (by lia)]
    · rw [if_neg h1]
      by_cases h2 : b < a
      · rw [if_pos h2]
      · rw [if_neg h2]; lia
  | ⟨7, _⟩ => rfl

/-- a part of a rule as it lies there. -/
def PtR (c : HC) : Nat → Nat → Ex → Prop
  | 0, _, _ => False
  | d + 1, a, e => a < c.sz ∧ (
    ((c.kd a).1 = 10 ∧ ∃ n, e = [(0, n)] ∧ c.fi 1000 a = I n) ∨
    ((c.kd a).1 = 9 ∧ e = [(1, 0)]) ∨
    ((c.kd a).1 = 11 ∧ ∃ o, o < 32 ∧ e = [(2, o)] ∧ c.fi 1100 a = I o) ∨
    ((c.kd a).1 = 12 ∧ ∃ (k : Fin 8) (l r : Nat) (el er : Ex), c.fr 1200 a = sref (c.cs (600 + k.val)) ∧ c.fr 1201 a = some l ∧ c.fr 1202 a = some r ∧ PtR c d l el ∧ PtR c d r er ∧ e = el ++ (er ++ [(jc k, 0)])) ∨
    ((c.kd a).1 = 8 ∧ ∃ (x y z : Nat) (ex ey ez : Ex), c.fr 800 a = some x ∧ c.fr 801 a = some y ∧ c.fr 802 a = some z ∧ PtR c d x ex ∧ PtR c d y ey ∧ PtR c d z ez ∧ e = ex ++ (ey ++ (ez ++ [(3, 0)]))))

theorem PtR.mono {c : HC} : ∀ {d d' : Nat} {a : Nat} {e : Ex}, d ≤ d' → PtR c d a e → PtR c d' a e
  | 0, _, _, _, _, h => absurd h (fun hh => hh)
  | d + 1, 0, _, _, hd, _ => absurd hd (by omega)
  | d + 1, d' + 1, a, e, hd, h => by
    have hd2 : d ≤ d' := by omega
    refine ⟨h.1, ?_⟩
    rcases h.2 with h | h | h | ⟨h0, k, l, r, el, er, h1, h2, h3, h4, h5, h6⟩ | ⟨h0, x, y, z, ex, ey, ez, h1, h2, h3, h4, h5, h6, h7⟩
    · exact .inl h
    · exact .inr (.inl h)
    · exact .inr (.inr (.inl h))
    · exact .inr (.inr (.inr (.inl ⟨h0, k, l, r, el, er, h1, h2, h3, h4.mono hd2, h5.mono hd2, h6⟩)))
    · exact .inr (.inr (.inr (.inr ⟨h0, x, y, z, ex, ey, ez, h1, h2, h3, h4.mono hd2, h5.mono hd2, h6.mono hd2, h7⟩)))

theorem PtR.keep {Wr : Nat → Nat → Prop} {c c' : HC} (F : Fr Wr c c') (hf : ∀ f a, f = 1000 ∨ f = 1100 ∨ f = 1200 ∨ f = 1201 ∨ f = 1202 ∨ f = 800 ∨ f = 801 ∨ f = 802 → ¬ Wr f a) : ∀ {d a : Nat} {e : Ex}, PtR c d a e → PtR c' d a e
  | 0, _, _, h => h
  | d + 1, a, e, h => by
    have hl := h.1
    have hk := F.kd a hl
    have hcs : c'.cs = c.cs := by
      show c'.bs.2 = c.bs.2
      rw [F.bs]
    have fi : ∀ f, f = 1000 ∨ f = 1100 ∨ f = 1200 ∨ f = 1201 ∨ f = 1202 ∨ f = 800 ∨ f = 801 ∨ f = 802 → c'.fi f a = c.fi f a := fun f h => F.fi f a hl (hf f a h)
    have fr : ∀ f, f = 1000 ∨ f = 1100 ∨ f = 1200 ∨ f = 1201 ∨ f = 1202 ∨ f = 800 ∨ f = 801 ∨ f = 802 → c'.fr f a = c.fr f a := fun f h => F.fr f a hl (hf f a h)
    refine ⟨Nat.lt_of_lt_of_le hl F.sz, ?_⟩
    rw [hk, hcs, fi 1000 (by simp), fi 1100 (by simp), fr 1200 (by simp), fr 1201 (by simp), fr 1202 (by simp), fr 800 (by simp), fr 801 (by simp), fr 802 (by simp)]
    rcases h.2 with h | h | h | ⟨h0, k, l, r, el, er, h1, h2, h3, h4, h5, h6⟩ | ⟨h0, x, y, z, ex, ey, ez, h1, h2, h3, h4, h5, h6, h7⟩
    · exact .inl h
    · exact .inr (.inl h)
    · exact .inr (.inr (.inl h))
    · exact .inr (.inr (.inr (.inl ⟨h0, k, l, r, el, er, h1, h2, h3, PtR.keep F hf h4, PtR.keep F hf h5, h6⟩)))
    · exact .inr (.inr (.inr (.inr ⟨h0, x, y, z, ex, ey, ez, h1, h2, h3, PtR.keep F hf h4, PtR.keep F hf h5, PtR.keep F hf h6, h7⟩)))

/-- a part's codes lay one number upon the pile. -/
theorem PtR.runs {c : HC} {own : Int32} {val : Nat → Int32} : ∀ {d a : Nat} {e : Ex}, PtR c d a e → ∃ r, ∀ st, Ex.run own val e st = r :: st
  | 0, _, _, h => absurd h (fun hh => hh)
  | d + 1, a, e, h => by
    rcases h.2 with ⟨_, n, rfl, _⟩ | ⟨_, rfl⟩ | ⟨_, o, _, rfl, _⟩ | ⟨_, k, l, r, el, er, _, _, _, h4, h5, rfl⟩ | ⟨_, x, y, z, ex, ey, ez, _, _, _, h4, h5, h6, rfl⟩
    · exact ⟨_, fun st => rfl⟩
    · exact ⟨_, fun st => rfl⟩
    · exact ⟨_, fun st => rfl⟩
    · obtain ⟨v1, hv1⟩ := PtR.runs (own := own) (val := val) h4
      obtain ⟨v2, hv2⟩ := PtR.runs (own := own) (val := val) h5
      refine ⟨jn (jc k) v1 v2, fun st => ?_⟩
      rw [Ex.run_app, hv1, Ex.run_app, hv2]
      have h3' := jc_3 k
      show stp _ _ (v2 :: v1 :: st) (jc k, 0) = _
      unfold stp
      rw [if_neg (by show ¬ jc k = 0; omega), if_neg (by show ¬ jc k = 1; omega), if_neg (by show ¬ jc k = 2; omega), if_neg (by show ¬ jc k = 3; omega)]
    · obtain ⟨v1, hv1⟩ := PtR.runs (own := own) (val := val) h4
      obtain ⟨v2, hv2⟩ := PtR.runs (own := own) (val := val) h5
      obtain ⟨v3, hv3⟩ := PtR.runs (own := own) (val := val) h6
      refine ⟨if v1 = 0 then v3 else v2, fun st => ?_⟩
      rw [Ex.run_app, hv1, Ex.run_app, hv2, Ex.run_app, hv3]
      rfl

/-- the values as they lie there. -/
def VaR (c : HC) (A : TA) (T : Tv) (v : Vl) : Prop := ∀ k a, k < T.n → a < 8 → c.ai (A.va k) a = v (8 * k + a)
/-- each node's values lie apart. -/
def VaD (A : TA) (T : Tv) : Prop := ∀ j k, j < T.n → k < T.n → A.va j = A.va k → j = k

theorem px_at {h : AH} (R : TrR h.c L A G T x) (X : T.WF G) {q pos : Nat} (hq : q < T.n) (hp : pos ≤ G.kn (T.pd q)) (hpb : pos < 1000) {Q : Option Nat → AH → Prop} (hQ : Q (some (A.r (T.atP q pos))) h) : wp_X15_at (A.r q) (I pos) h Q := by
  have N := R.nd q hq
  unfold wp_X15_at
  by_cases h0 : pos = 0
  · refine brT (by (first | omega | ((try simp (disch := omega) only [L_le, le_L, L_lt, lt_L, eq_L, L_eq, I_le, I_lt, I_eq, I_ni, add_L, L_add, I_add, mul_L, L_mul, I_mul, sub_L, L_sub, I_sub, div_L, rem_L]); done) | ((try simp (disch := omega) only [L_le, le_L, L_lt, lt_L, eq_L, L_eq, I_le, I_lt, I_eq, I_ni, add_L, L_add, I_add, mul_L, L_mul, I_mul, sub_L, L_sub, I_sub, div_L, rem_L]); omega))) ?_
    unfold Tv.atP at hQ
    rw [if_pos h0] at hQ
    exact hQ
  · have ec : h.fr 1506 (A.r q) = some (A.cl q) := N.ch
    refine brF (by (first | omega | ((try simp (disch := omega) only [L_le, le_L, L_lt, lt_L, eq_L, L_eq, I_le, I_lt, I_eq, I_ni, add_L, L_add, I_add, mul_L, L_mul, I_mul, sub_L, L_sub, I_sub, div_L, rem_L]); done) | ((try simp (disch := omega) only [L_le, le_L, L_lt, lt_L, eq_L, L_eq, I_le, I_lt, I_eq, I_ni, add_L, L_add, I_add, mul_L, L_mul, I_mul, sub_L, L_sub, I_sub, div_L, rem_L]); omega))) ⟨nn_of rfl N.k, ?_⟩
    rw [ec, adr_some]
    refine ⟨nn_of rfl N.ls.k, ?_⟩
    (try simp (disch := omega) only [L_le, le_L, L_lt, lt_L, eq_L, L_eq, I_le, I_lt, I_eq, I_ni, add_L, L_add, I_add, mul_L, L_mul, I_mul, sub_L, L_sub, I_sub, div_L, rem_L])
    refine pc_get (h := h.srm 0 0) N.ls (i := pos - 1) (by omega) (pu ?_)
    have hk : T.kd q (pos - 1 + 1) = T.atP q pos := by unfold Tv.atP; rw [if_neg h0, show pos - 1 + 1 = pos by omega]
    rw [hk]
    have hlt : T.atP q pos < T.n := by
      unfold Tv.atP
      rw [if_neg h0]
      exact (X.kid q pos hq (by omega) hp).1
    exact ⟨.inr (nn_of rfl (R.nd _ hlt).k), hQ⟩

/-- what any part may be. -/
def DO (d : Nat) (r p : Option Nat) (h : AH) (J : Int32 → AH → Prop) : Prop :=
  ((nn h r 8 ∧ wp_X8_of d (adr r) p (h.srm 0 0) fun r1 h1 => ∀ h2, h2 = h1.srm h.rc h.rs → J r1 h2) ∨
   (nn h r 9 ∧ wp_X9_of (adr r) p (h.srm 0 0) fun r1 h1 => ∀ h2, h2 = h1.srm h.rc h.rs → J r1 h2) ∨
   (nn h r 10 ∧ wp_X10_of (adr r) p (h.srm 0 0) fun r1 h1 => ∀ h2, h2 = h1.srm h.rc h.rs → J r1 h2) ∨
   (nn h r 11 ∧ wp_X11_of (adr r) p (h.srm 0 0) fun r1 h1 => ∀ h2, h2 = h1.srm h.rc h.rs → J r1 h2) ∨
   (nn h r 12 ∧ wp_X12_of d (adr r) p (h.srm 0 0) fun r1 h1 => ∀ h2, h2 = h1.srm h.rc h.rs → J r1 h2))

theorem w12s (d : Nat) : wp_X12_of (d + 1) = wo_X12_of (wp_X12_of d) (wp_X8_of d) := rfl
theorem w8s (d : Nat) : wp_X8_of (d + 1) = wo_X8_of (wp_X12_of d) (wp_X8_of d) := rfl
theorem px_ofP (W : G.WF) (X : T.WF G) {c0 : HC} (R : TrR c0 L A G T x) {v : Vl} (V : VaR c0 A T v) {q : Nat} (hq : q < T.n) : ∀ (d : Nat) {h : AH} {a : Nat} {e : Ex}, h.c = c0 → PtR c0 d a e → (∀ o, (2, o) ∈ e → G.oc (T.pd q) o) → ∀ {J : Int32 → AH → Prop},
    (∀ r, (∀ st, Ex.run (T.nu q) (fun o => v (8 * T.atP q (o / 8) + o % 8)) e st = r :: st) → J r h) → DO d (some a) (some (A.r q)) h J
  | 0, _, _, _, _, hP, _, _, _ => absurd hP (fun hh => hh)
  | d + 1, h, a, e, hc, hP, ho, J, hJ => by
    have Rh : TrR h.c L A G T x := by rw [hc]; exact R
    have N := Rh.nd q hq
    rcases hP.2 with ⟨h0, n, rfl, h1⟩ | ⟨h0, rfl⟩ | ⟨h0, o, ho32, rfl, h1⟩ | ⟨h0, k, l, r, el, er, h1, h2, h3, h4, h5, rfl⟩ | ⟨h0, y0, y1, y2, ex, ey, ez, h1, h2, h3, h4, h5, h6, rfl⟩
    · rw [← hc] at h0 h1
      refine .inr (.inr (.inl ⟨nn_of rfl h0, ?_⟩))
      refine ⟨nn_of rfl h0, pu ?_⟩
      have e1 : h.fi 1000 a = I n := h1
      rw [adr_some]
      show J (h.fi 1000 a) h
      rw [e1]
      exact hJ _ (fun st => rfl)
    · rw [← hc] at h0
      refine .inr (.inl ⟨nn_of rfl h0, ?_⟩)
      refine ⟨nn_of rfl N.k, pu ?_⟩
      have e1 : h.fi 1501 (A.r q) = T.nu q := N.nu
      show J (h.fi 1501 (A.r q)) h
      rw [e1]
      exact hJ _ (fun st => rfl)
    · rw [← hc] at h0 h1
      have hoc := ho o (by simp)
      have e1 : h.fi 1100 a = I o := h1
      refine .inr (.inr (.inr (.inl ⟨nn_of rfl h0, ?_⟩)))
      show wp_X11_of a (some (A.r q)) (h.srm 0 0) _
      unfold wp_X11_of
      refine ⟨nn_of rfl h0, nn_of rfl N.k, ?_⟩
      show wp_X15_at (A.r q) ((h.fi 1100 a) / 8) ((h.srm 0 0).srm 0 0) _
      rw [e1]
      (try simp (disch := omega) only [L_le, le_L, L_lt, lt_L, eq_L, L_eq, I_le, I_lt, I_eq, I_ni, add_L, L_add, I_add, mul_L, L_mul, I_mul, sub_L, L_sub, I_sub, div_L, rem_L])
      have hat : T.atP q (o / 8) < T.n := by
        unfold Tv.atP
        split
        · exact hq
        · next hz => exact (X.kid q _ hq (by omega) hoc.2.1).1
      have Nt := Rh.nd _ hat
      refine px_at (h := (h.srm 0 0).srm 0 0) Rh X hq hoc.2.1 (by omega) ?_
      intro h6 e6
      have e6' : h6 = h.srm 0 0 := e6
      subst e6'
      have ev : h.fr 1507 (A.r (T.atP q (o / 8))) = some (A.va (T.atP q (o / 8))) := Nt.va
      refine ⟨nn_of rfl Nt.k, nn_of rfl h0, ?_⟩
      show ix h (h.fr 1507 (A.r (T.atP q (o / 8)))) 40 (jrem (h.fi 1100 a) 8) ∧ (∀ h2, h2 = h.srm h.rc h.rs → J (h.ai (adr (h.fr 1507 (A.r (T.atP q (o / 8))))) (ni (jrem (h.fi 1100 a) 8))) h2)
      rw [ev, e1, adr_some]
      (try simp (disch := omega) only [L_le, le_L, L_lt, lt_L, eq_L, L_eq, I_le, I_lt, I_eq, I_ni, add_L, L_add, I_add, mul_L, L_mul, I_mul, sub_L, L_sub, I_sub, div_L, rem_L])
      refine ⟨ix_of rfl Nt.vk (by omega) (by decide), fun h2 e2 => ?_⟩
      have e2' : h2 = h := e2
      subst e2'
      rw [show h2.ai (A.va (T.atP q (o / 8))) (o % 8) = v (8 * T.atP q (o / 8) + o % 8) from by
        have := V (T.atP q (o / 8)) (o % 8) hat (by omega)
        rw [← hc] at this
        exact this]
      exact hJ _ (fun st => rfl)
    · have f1 : h.fr 1201 a = some l := by have := h2; rw [← hc] at this; exact this
      have f2 : h.fr 1202 a = some r := by have := h3; rw [← hc] at this; exact this
      have f0 : h.fr 1200 a = sref (h.cs (600 + k.val)) := by have := h1; rw [← hc] at this; exact this
      rw [← hc] at h0
      refine .inr (.inr (.inr (.inr ⟨nn_of rfl h0, ?_⟩)))
      rw [w12s, adr_some]
      unfold wo_X12_of
      refine ⟨nn_of rfl h0, fun v1 h' => (∀ st, Ex.run (T.nu q) (fun o => v (8 * T.atP q (o / 8) + o % 8)) el st = v1 :: st) ∧ h' = h.srm 0 0, ?_, ?_⟩
      · show DO d (h.fr 1201 a) (some (A.r q)) (h.srm 0 0) _
        rw [f1]
        exact px_ofP W X R V hq d (h := h.srm 0 0) hc h4 (fun o hh => ho o (List.mem_append_left _ hh)) (fun v1 hv => ⟨hv, rfl⟩)
      · rintro v1 _ ⟨hv1, rfl⟩
        refine ⟨nn_of rfl h0, fun v2 h' => (∀ st, Ex.run (T.nu q) (fun o => v (8 * T.atP q (o / 8) + o % 8)) er st = v2 :: st) ∧ h' = h.srm 0 0, ?_, ?_⟩
        · show DO d (h.fr 1202 a) (some (A.r q)) (h.srm 0 0) _
          rw [f2]
          exact px_ofP W X R V hq d (h := h.srm 0 0) hc h5 (fun o hh => ho o (List.mem_append_right _ (List.mem_append_left _ hh))) (fun v1 hv => ⟨hv, rfl⟩)
        · rintro v2 _ ⟨hv2, rfl⟩
          refine ⟨k, f0, pu (hJ _ (fun st => ?_))⟩
          rw [Ex.run_app, hv1, Ex.run_app, hv2]
          have h3' := jc_3 k
          rw [Ex.run_one]
          unfold stp
          rw [if_neg (by show ¬ jc k = 0; omega), if_neg (by show ¬ jc k = 1; omega), if_neg (by show ¬ jc k = 2; omega), if_neg (by show ¬ jc k = 3; omega)]
          show jn (jc k) v1 v2 :: st = _
          rw [jn_jc]
    · have f0 : h.fr 800 a = some y0 := by have := h1; rw [← hc] at this; exact this
      have f1 : h.fr 801 a = some y1 := by have := h2; rw [← hc] at this; exact this
      have f2 : h.fr 802 a = some y2 := by have := h3; rw [← hc] at this; exact this
      rw [← hc] at h0
      refine .inl ⟨nn_of rfl h0, ?_⟩
      rw [w8s, adr_some]
      unfold wo_X8_of
      -- all three can be told
      have key : ∀ {a' : Nat} {e' : Ex} {J' : Int32 → AH → Prop}, PtR c0 d a' e' → (∀ o, (2, o) ∈ e' → G.oc (T.pd q) o) → (∀ r, (∀ st, Ex.run (T.nu q) (fun o => v (8 * T.atP q (o / 8) + o % 8)) e' st = r :: st) → J' r (h.srm 0 0)) → DO d (some a') (some (A.r q)) (h.srm 0 0) J' :=
        fun {a'} {e'} {J'} hp hoo hj => px_ofP W X R V hq d (h := h.srm 0 0) hc hp hoo hj
      refine ⟨nn_of rfl h0, fun v1 h' => (∀ st, Ex.run (T.nu q) (fun o => v (8 * T.atP q (o / 8) + o % 8)) ex st = v1 :: st) ∧ h' = h.srm 0 0, ?_, ?_⟩
      · show DO d (h.fr 800 a) (some (A.r q)) (h.srm 0 0) _
        rw [f0]
        exact key h4 (fun o hh => ho o (List.mem_append_left _ hh)) (fun v1 hv => ⟨hv, rfl⟩)
      · rintro v1 _ ⟨hv1, rfl⟩
        have o5 : ∀ o, (2, o) ∈ ey → G.oc (T.pd q) o := fun o hh => ho o (List.mem_append_right _ (List.mem_append_left _ hh))
        have o6 : ∀ o, (2, o) ∈ ez → G.oc (T.pd q) o := fun o hh => ho o (List.mem_append_right _ (List.mem_append_right _ (List.mem_append_left _ hh)))
        -- what the other two make, whichever is asked
        have fin : ∀ v2 v3, (∀ st, Ex.run (T.nu q) (fun o => v (8 * T.atP q (o / 8) + o % 8)) ey st = v2 :: st) → (∀ st, Ex.run (T.nu q) (fun o => v (8 * T.atP q (o / 8) + o % 8)) ez st = v3 :: st) → J (if v1 = 0 then v3 else v2) h := by
          intro v2 v3 hv2 hv3
          refine hJ _ (fun st => ?_)
          rw [Ex.run_app, hv1, Ex.run_app, hv2, Ex.run_app, hv3]
          rfl
        have ex5 : ∃ v2, ∀ st, Ex.run (T.nu q) (fun o => v (8 * T.atP q (o / 8) + o % 8)) ey st = v2 :: st := PtR.runs h5
        have ex6 : ∃ v3, ∀ st, Ex.run (T.nu q) (fun o => v (8 * T.atP q (o / 8) + o % 8)) ez st = v3 :: st := PtR.runs h6
        refine ⟨fun hz => ⟨nn_of rfl h0, fun v3 h' => (∀ st, Ex.run (T.nu q) (fun o => v (8 * T.atP q (o / 8) + o % 8)) ez st = v3 :: st) ∧ h' = h.srm 0 0, ?_, ?_⟩, fun hz => ⟨nn_of rfl h0, fun v2 h' => (∀ st, Ex.run (T.nu q) (fun o => v (8 * T.atP q (o / 8) + o % 8)) ey st = v2 :: st) ∧ h' = h.srm 0 0, ?_, ?_⟩⟩
        · show DO d (h.fr 802 a) (some (A.r q)) (h.srm 0 0) _
          rw [f2]
          exact key h6 o6 (fun v1 hv => ⟨hv, rfl⟩)
        · rintro v3 _ ⟨hv3, rfl⟩
          obtain ⟨v2, hv2⟩ := ex5
          have := fin v2 v3 hv2 hv3
          rw [if_pos hz] at this
          exact pu this
        · show DO d (h.fr 801 a) (some (A.r q)) (h.srm 0 0) _
          rw [f1]
          exact key h5 o5 (fun v1 hv => ⟨hv, rfl⟩)
        · rintro v2 _ ⟨hv2, rfl⟩
          obtain ⟨v3, hv3⟩ := ex6
          have := fin v2 v3 hv2 hv3
          rw [if_neg hz] at this
          exact pu this
end
section
variable {G : Gv} {T : Tv} {L : GA} {A : TA} {x o : Nat} {B : IA}

/-- rules as they lie there. -/
def RuR (c : HC) (L : GA) (G : Gv) : Prop :=
  (∀ p, p < G.nP → c.fr 702 (L.pa p) = some (L.pr p) ∧ c.kd (L.pr p) = (46, 32) ∧ L.pr p < c.sz) ∧
  (∀ p u, p < G.nP → u < 32 → G.rl p u = none → c.ar (L.pr p) u = none) ∧
  (∀ p u e, p < G.nP → u < 32 → G.rl p u = some e → ∃ a, c.ar (L.pr p) u = some a ∧ PtR c 64 a e) ∧
  (∀ p, p < G.nP → c.fr 704 (L.pa p) = some (L.po p) ∧ c.kd (L.po p) = (42, 32) ∧ L.po p < c.sz) ∧
  (∀ p u, p < G.nP → u < 32 → c.ai (L.po p) u = if (match G.rl p u with | some e => Ex.isOwn e | none => false) then 1 else 0)
theorem RuR.f {c : HC} {L : GA} {G : Gv} (h9 : RuR c L G) : ∀ p, p < G.nP → c.fr 702 (L.pa p) = some (L.pr p) ∧ c.kd (L.pr p) = (46, 32) ∧ L.pr p < c.sz := h9.1
theorem RuR.n {c : HC} {L : GA} {G : Gv} (h9 : RuR c L G) : ∀ p u, p < G.nP → u < 32 → G.rl p u = none → c.ar (L.pr p) u = none := h9.2.1
theorem RuR.s {c : HC} {L : GA} {G : Gv} (h9 : RuR c L G) : ∀ p u e, p < G.nP → u < 32 → G.rl p u = some e → ∃ a, c.ar (L.pr p) u = some a ∧ PtR c 64 a e := h9.2.2.1
theorem RuR.w {c : HC} {L : GA} {G : Gv} (h9 : RuR c L G) : ∀ p, p < G.nP → c.fr 704 (L.pa p) = some (L.po p) ∧ c.kd (L.po p) = (42, 32) ∧ L.po p < c.sz := h9.2.2.2.1
theorem RuR.v {c : HC} {L : GA} {G : Gv} (h9 : RuR c L G) : ∀ p u, p < G.nP → u < 32 → c.ai (L.po p) u = if (match G.rl p u with | some e => Ex.isOwn e | none => false) then 1 else 0 := h9.2.2.2.2

/-- what is given to the root. -/
def GnR (c : HC) (A : TA) (ga : Nat) (gv : Nat → Int32) : Prop :=
  (c.fr 1601 A.t = some ga) ∧
  (c.kd ga = (40, 4)) ∧
  (ga < c.sz) ∧
  (∀ j, j < 4 → c.ai ga j = gv j)
theorem GnR.f {c : HC} {A : TA} {ga : Nat} {gv : Nat → Int32} (h9 : GnR c A ga gv) : c.fr 1601 A.t = some ga := h9.1
theorem GnR.k {c : HC} {A : TA} {ga : Nat} {gv : Nat → Int32} (h9 : GnR c A ga gv) : c.kd ga = (40, 4) := h9.2.1
theorem GnR.l {c : HC} {A : TA} {ga : Nat} {gv : Nat → Int32} (h9 : GnR c A ga gv) : ga < c.sz := h9.2.2.1
theorem GnR.v {c : HC} {A : TA} {ga : Nat} {gv : Nat → Int32} (h9 : GnR c A ga gv) : ∀ j, j < 4 → c.ai ga j = gv j := h9.2.2.2

theorem px_ruleOf {h : AH} (W : G.WF) (X : T.WF G) (S : GS h.c L G) (R : TrR h.c L A G T x) (U : RuR h.c L G) (J : InO h.c o x) {i : Nat} (hi : T.is G i) {Q : Option Nat → AH → Prop}
    (hn : T.rA G i = none → Q none h) (hz : ∀ q, T.rA G i = some q → G.rl (T.pd q) (T.oO G i) = none → Q none h) (hs : ∀ q e a, T.rA G i = some q → G.rl (T.pd q) (T.oO G i) = some e → PtR h.c 64 a e → Q (some a) h) : wp_X17_ruleOf o (I i) h Q := by
  have hlt := X.isLt hi
  refine ⟨nn_of rfl J.k, ?_⟩
  refine px_ruleAt (h := h.srm 0 0) W X S R J hlt (pu ?_)
  cases hr : T.rA G i with
  | none => exact brT rfl (hn hr)
  | some q =>
    have hq := X.rAlt hi.1 hr
    have N := R.nd q hq
    have ep : h.fr 1500 (A.r q) = some (L.pa (T.pd q)) := N.p
    have P := S.pr _ (X.pd q hq)
    obtain ⟨u1, u2, u3⟩ := U.f _ (X.pd q hq)
    have e7 : h.fr 702 (L.pa (T.pd q)) = some (L.pr (T.pd q)) := u1
    have h32 := (X.oOlt W hi hr).1.1
    refine brF (by simp) ⟨nn_of rfl J.k, ?_⟩
    refine px_ruleAt (h := h.srm 0 0) W X S R J hlt (pu ?_)
    rw [hr]
    refine ⟨nn_of rfl N.k, ?_⟩
    have ea : adr ((some q).map A.r) = A.r q := rfl
    rw [ea, ep, adr_some]
    refine ⟨nn_of rfl P.k, nn_of rfl J.k, ?_⟩
    refine px_occOf (h := h.srm 0 0) W X S R J hlt hr (pu ?_)
    rw [e7, adr_some]
    refine ⟨ix_of rfl u2 h32 (by decide), ?_⟩
    rw [I_ni (by omega)]
    cases he : G.rl (T.pd q) (T.oO G i) with
    | none =>
      rw [show h.ar (L.pr (T.pd q)) (T.oO G i) = none from U.n _ _ (X.pd q hq) h32 he]
      exact hz q hr he
    | some e =>
      obtain ⟨a, ha, hP⟩ := U.s _ _ e (X.pd q hq) h32 he
      rw [show h.ar (L.pr (T.pd q)) (T.oO G i) = some a from ha]
      exact hs q e a hr he hP

theorem px_told {h : AH} (W : G.WF) (X : T.WF G) (S : GS h.c L G) (R : TrR h.c L A G T x) (U : RuR h.c L G) (J : InO h.c o x) {ga : Nat} {gv : Nat → Int32} (Gn : GnR h.c A ga gv) {v : Vl} (V : VaR h.c A T v) (RL : G.RL) {i : Nat} (hi : T.is G i) {Q : Int32 → AH → Prop}
    (hQ : Q (T.mk G gv i v) h) : wp_X17_told o (I i) h Q := by
  have hlt := X.isLt hi
  have h40 := X.n40
  unfold wp_X17_told
  refine ⟨nn_of rfl J.k, ?_⟩
  refine px_ruleAt (h := h.srm 0 0) W X S R J hlt (pu ?_)
  cases hr : T.rA G i with
  | none =>
    refine brT rfl ⟨nn_of rfl J.k, ?_⟩
    have e1 : h.fr 1712 o = some x := J.mx
    have e2 : h.fr 105 x = some A.t := R.xt
    have e3 : h.fr 1601 A.t = some ga := Gn.f
    rw [e1, adr_some, e2, adr_some, e3, adr_some]
    have h4 : i % 8 < 4 := by
      have hs := X.smS W hi.1
      have := W.ins _ hs
      unfold Tv.rA at hr
      split at hr
      · exact absurd hr (by simp)
      · next hh => omega
    refine ⟨nn_of rfl R.xk, nn_of rfl R.tk, ?_⟩
    (try simp (disch := omega) only [L_le, le_L, L_lt, lt_L, eq_L, L_eq, I_le, I_lt, I_eq, I_ni, add_L, L_add, I_add, mul_L, L_mul, I_mul, sub_L, L_sub, I_sub, div_L, rem_L])
    refine ⟨ix_of rfl Gn.k h4 (by decide), ?_⟩
    rw [show h.ai ga (i % 8) = gv (i % 8) from Gn.v _ h4]
    unfold Tv.mk at hQ
    rw [hr] at hQ
    exact hQ
  | some q =>
    have hq := X.rAlt hi.1 hr
    refine brF (by simp) ⟨nn_of rfl J.k, ?_⟩
    refine px_ruleOf (h := h.srm 0 0) W X S R U J hi ?_ ?_ ?_
    · intro hh; rw [hr] at hh; exact absurd hh (by simp)
    · intro q' hr' he
      rw [hr] at hr'
      have eq := Option.some.inj hr'
      subst eq
      refine pu (brT rfl ?_)
      unfold Tv.mk at hQ
      rw [hr] at hQ
      simp only [he] at hQ
      exact hQ
    · intro q' e a hr' he hP
      rw [hr] at hr'
      have eq := Option.some.inj hr'
      subst eq
      refine pu (brF (by simp) ⟨nn_of rfl J.k, ?_⟩)
      refine px_ruleAt (h := h.srm 0 0) W X S R J hlt (pu ?_)
      rw [hr]
      have hv : Q (Ex.val (T.nu q) (fun u => v (8 * T.atP q (u / 8) + u % 8)) e) h := by
        unfold Tv.mk at hQ
        rw [hr] at hQ
        simp only [he] at hQ
        exact hQ
      refine ⟨fun r h' => (∀ st, Ex.run (T.nu q) (fun u => v (8 * T.atP q (u / 8) + u % 8)) e st = r :: st) ∧ h' = h, ?_, ?_⟩
      · exact px_ofP W X R V hq 64 (h := h) rfl hP (fun u hu => W.rb _ _ e u (X.pd q hq) he (Ex.asks_bt hu (RL.occ _ _ e u (X.pd q hq) he hu))) (fun r hr => ⟨hr, rfl⟩)
      · rintro r _ ⟨hr9, rfl⟩
        unfold Ex.val at hv
        rw [hr9] at hv
        exact hv

/-- a value is laid. -/
def WV (A : TA) (T : Tv) : Nat → Nat → Prop := fun f b => f = 0 ∧ ∃ k, k < T.n ∧ b = A.va k

theorem VaR.lay {h : AH} {v : Vl} (V : VaR h.c A T v) (D : VaD A T) {i : Nat} (hi : i / 8 < T.n) (y : Int32) : VaR (h.sai (A.va (i / 8)) (i % 8) y).c A T (updN v i y) := by
  intro k a hk ha
  show (h.sai (A.va (i / 8)) (i % 8) y).ai (A.va k) a = _
  rw [sai_ai]
  by_cases e : k = i / 8
  · subst e
    rw [if_pos rfl]
    by_cases e2 : a = i % 8
    · subst e2
      rw [updN_same, show 8 * (i / 8) + i % 8 = i by omega, updN_same]
    · rw [updN_ne _ _ e2, updN_ne _ _ (by omega)]
      exact V _ _ hk ha
  · rw [if_neg (fun hh => e (D _ _ hk hi hh)), updN_ne _ _ (by omega)]
    exact V _ _ hk ha

theorem px_lays {h : AH} (R : TrR h.c L A G T x) (X : T.WF G) (J : InO h.c o x) {i : Nat} (hi : i < 8 * T.n) {y : Int32} {Q : AH → Prop} (hQ : Q (h.sai (A.va (i / 8)) (i % 8) y)) : wp_X17_lays o (I i) y h Q := by
  have h40 := X.n40
  have hn : i / 8 < T.n := by omega
  have N := R.nd _ hn
  have ev : h.fr 1507 (A.r (i / 8)) = some (A.va (i / 8)) := N.va
  refine ⟨nn_of rfl J.k, ?_⟩
  refine px_nodeOf (h := h.srm 0 0) R X J hn (by omega) (pu ⟨nn_of rfl N.k, ?_⟩)
  rw [adr_some, ev, adr_some]
  (try simp (disch := omega) only [L_le, le_L, L_lt, lt_L, eq_L, L_eq, I_le, I_lt, I_eq, I_ni, add_L, L_add, I_add, mul_L, L_mul, I_mul, sub_L, L_sub, I_sub, div_L, rem_L])
  refine ⟨ix_of rfl N.vk (by omega) (by decide), ?_⟩
  rintro _ rfl
  exact hQ

theorem px_valueOf {h : AH} (R : TrR h.c L A G T x) (X : T.WF G) (J : InO h.c o x) {v : Vl} (V : VaR h.c A T v) {i : Nat} (hi : i < 8 * T.n) {Q : Int32 → AH → Prop} (hQ : Q (v i) h) : wp_X17_valueOf o (I i) h Q := by
  have h40 := X.n40
  have hn : i / 8 < T.n := by omega
  have N := R.nd _ hn
  have ev : h.fr 1507 (A.r (i / 8)) = some (A.va (i / 8)) := N.va
  refine ⟨nn_of rfl J.k, ?_⟩
  refine px_nodeOf (h := h.srm 0 0) R X J hn (by omega) (pu ⟨nn_of rfl N.k, ?_⟩)
  rw [adr_some, ev, adr_some]
  (try simp (disch := omega) only [L_le, le_L, L_lt, lt_L, eq_L, L_eq, I_le, I_lt, I_eq, I_ni, add_L, L_add, I_add, mul_L, L_mul, I_mul, sub_L, L_sub, I_sub, div_L, rem_L])
  refine ⟨ix_of rfl N.vk (by omega) (by decide), ?_⟩
  rw [show h.ai (A.va (i / 8)) (i % 8) = v i from by
    have := V (i / 8) (i % 8) hn (by omega)
    rw [show 8 * (i / 8) + i % 8 = i by omega] at this
    exact this]
  exact hQ
end
