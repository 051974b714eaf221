/-! plain: tw tg tg2 tg3 tg4 tg5 -/
set_option maxRecDepth 100000
section
def TS.wa (T : TS) (j : Nat) (f : Nat → Int32) : TS := (T.s, T.w, fun i => if i = j then f else T.a i, T.l)
def TS.wl (T : TS) (j : Nat) (f : Nat → Int64) : TS := (T.s, T.w, T.a, fun i => if i = j then f else T.l i)
theorem sa_wa (T : TS) (j i : Nat) (v : Int32) : T.sa j i v = T.wa j (updN (T.a j) i v) := by
  unfold TS.sa TS.wa
  congr 3
  funext a b
  by_cases h : a = j
  · subst h; simp [up2, updN]
  · simp [up2, h]
theorem sl_wl (T : TS) (j i : Nat) (v : Int64) : T.sl j i v = T.wl j (updN (T.l j) i v) := by
  unfold TS.sl TS.wl
  congr 3
  funext a b
  by_cases h : a = j
  · subst h; simp [up2, updN]
  · simp [up2, h]
theorem wa_a (T : TS) (j : Nat) (f) (i : Nat) : (T.wa j f).a i = if i = j then f else T.a i := rfl
theorem wa_s (T : TS) (j : Nat) (f) : (T.wa j f).s = T.s := rfl
theorem wa_w (T : TS) (j : Nat) (f) : (T.wa j f).w = T.w := rfl
theorem wa_l (T : TS) (j : Nat) (f) : (T.wa j f).l = T.l := rfl
theorem wl_a (T : TS) (j : Nat) (f) : (T.wl j f).a = T.a := rfl
theorem wl_s (T : TS) (j : Nat) (f) : (T.wl j f).s = T.s := rfl
theorem wl_w (T : TS) (j : Nat) (f) : (T.wl j f).w = T.w := rfl
theorem wl_l (T : TS) (j : Nat) (f) (i : Nat) : (T.wl j f).l i = if i = j then f else T.l i := rfl
theorem ss_s (T : TS) (F : Nat) (v) (G : Nat) : (T.ss F v).s G = if G = F then v else T.s G := rfl
theorem ss_w (T : TS) (F : Nat) (v) : (T.ss F v).w = T.w := rfl
theorem ss_a (T : TS) (F : Nat) (v) : (T.ss F v).a = T.a := rfl
theorem ss_l (T : TS) (F : Nat) (v) : (T.ss F v).l = T.l := rfl
theorem sw_s (T : TS) (F : Nat) (v) : (T.sw F v).s = T.s := rfl
theorem sw_w (T : TS) (F : Nat) (v) (G : Nat) : (T.sw F v).w G = if G = F then v else T.w G := rfl
theorem sw_a (T : TS) (F : Nat) (v) : (T.sw F v).a = T.a := rfl
theorem sw_l (T : TS) (F : Nat) (v) : (T.sw F v).l = T.l := rfl
theorem wa_wa (T : TS) (j : Nat) (f g) : (T.wa j f).wa j g = T.wa j g := by
  refine Prod.ext rfl (Prod.ext rfl (Prod.ext (funext fun i => ?_) rfl))
  show (if i = j then g else (T.wa j f).a i) = if i = j then g else T.a i
  by_cases h : i = j <;> simp [h, wa_a]
theorem wa_self (T : TS) (j : Nat) : T.wa j (T.a j) = T := by
  obtain ⟨s, w, a, l⟩ := T
  simp only [TS.wa, TS.a, TS.s, TS.w, TS.l]
  congr 3
  funext i
  by_cases h : i = j <;> simp [h]
theorem wa_ss (T : TS) (j f F v) : (T.wa j f).ss F v = (T.ss F v).wa j f := rfl
theorem ss_ss (T : TS) (F v w) : (T.ss F v).ss F w = T.ss F w := by
  unfold TS.ss
  simp only [TS.s, TS.w, TS.a, TS.l]
  congr 1
  funext i
  simp only [up1]
  by_cases h : i = F <;> simp [h]

theorem in_I {k n : Nat} (hk : k < n) (hn : n < 2147483648) : vp_in (I k) n := by
  rintro (h | h)
  · exact I_nonneg (by omega) h
  · have : (I k).toNatClampNeg = k := I_ni (by omega)
    omega
theorem tix_I {j t k : Nat} (h : ttg j = t) (hk : k < tlen j) (hn : tlen j < 2147483648) : tix j t (I k) := ⟨h, in_I hk hn⟩

/-- a loop that counts. -/
theorem tlp_cnt {σ : Type} {B : σ → TS → (σ → TS → Prop) → Prop} {s : σ} {T : TS} (N : Nat) (J : Nat → σ → TS → Prop) (h0 : J 0 s T)
    (hb : ∀ k s T K, k ≤ N → J k s T → (∀ s' T', k < N → J (k + 1) s' T' → K s' T') → B s T K) : tlp B s T := by
  refine ⟨fun n s T => ∃ k, k + n = N ∧ J k s T, ⟨N, 0, by omega, h0⟩, ?_⟩
  rintro n s T ⟨k, hk, hJ⟩
  refine hb k s T _ (by omega) hJ ?_
  intro s' T' hlt hJ'
  exact ⟨n - 1, by omega, k + 1, by omega, hJ'⟩

/-- a loop over one counter that goes up by one. -/
theorem tlp_for {B : Int32 → TS → (Int32 → TS → Prop) → Prop} {T : TS} (N : Nat) (f : Nat → TS) (h0 : f 0 = T)
    (hb : ∀ k K, k < N → K (I (k + 1)) (f (k + 1)) → B (I k) (f k) K) (he : ∀ K, B (I N) (f N) K) : tlp B (I 0) T := by
  refine tlp_cnt N (fun k s T => s = I k ∧ T = f k) ⟨rfl, h0.symm⟩ ?_
  rintro k s T K hk ⟨rfl, rfl⟩ hK
  by_cases e : k = N
  · subst e; exact he K
  · exact hb k K (by omega) (hK _ _ (by omega) ⟨rfl, rfl⟩)

theorem pt_has {p : Int32} {k : Nat} (hk : k < 32) {T : TS} {Q : Int32 → TS → Prop} (h : Q (if bt p k then 1 else 0) T) : wp_X1_has p (I k) T Q := by
  intro m hm
  have : m = if bt p k then 1 else 0 := by
    rw [hm]
    by_cases hb : bt p k = true
    · rw [if_pos ((has_shr hk).2 hb), if_pos hb]
    · rw [if_neg (fun h => hb ((has_shr hk).1 h)), if_neg hb]
  rw [this]
  refine ⟨?_, h⟩
  by_cases hb : bt p k = true <;> simp [bz, hb]

theorem if10 {b : Bool} : (if b = true then (1 : Int32) else 0) = 0 ↔ b = false := by cases b <;> simp
theorem pt_closes {T : TS} {Q : TS → Prop} (h : Q (T.wa 6 (clo (T.a 6)))) : wp_X1_closes T Q := by
  unfold wp_X1_closes
  refine tlp_for 32 (fun k => T.wa 6 (clK (T.a 6) k)) (wa_self T 6) ?_ ?_
  · intro k K hk hK
    refine brF (by (first | omega | ((try simp (disch := omega) only [L_le, le_L, L_lt, lt_L, eq_L, L_eq, I_le, I_lt, I_eq, I_ni, add_L, L_add, I_add, mul_L, L_mul, I_mul, sub_L, L_sub, I_sub, div_L, rem_L]); done) | ((try simp (disch := omega) only [L_le, le_L, L_lt, lt_L, eq_L, L_eq, I_le, I_lt, I_eq, I_ni, add_L, L_add, I_add, mul_L, L_mul, I_mul, sub_L, L_sub, I_sub, div_L, rem_L]); omega))) ?_
    refine tlp_for 32 (fun n => T.wa 6 (clI (clK (T.a 6) k) k n)) rfl ?_ ?_
    · intro n K2 hn hK2
      refine brF (by (first | omega | ((try simp (disch := omega) only [L_le, le_L, L_lt, lt_L, eq_L, L_eq, I_le, I_lt, I_eq, I_ni, add_L, L_add, I_add, mul_L, L_mul, I_mul, sub_L, L_sub, I_sub, div_L, rem_L]); done) | ((try simp (disch := omega) only [L_le, le_L, L_lt, lt_L, eq_L, L_eq, I_le, I_lt, I_eq, I_ni, add_L, L_add, I_add, mul_L, L_mul, I_mul, sub_L, L_sub, I_sub, div_L, rem_L]); omega))) ?_
      refine ⟨tix_I rfl hn (by decide), pt_has hk ?_⟩
      simp only [wa_a, if_true, if10, sa_wa, wa_wa, clI] at hK2 ⊢
      (try simp (disch := omega) only [L_le, le_L, L_lt, lt_L, eq_L, L_eq, I_le, I_lt, I_eq, I_ni, add_L, L_add, I_add, mul_L, L_mul, I_mul, sub_L, L_sub, I_sub, div_L, rem_L])
      refine ⟨fun hb => ?_, fun hb => ⟨tix_I rfl hn (by decide), tix_I rfl hk (by decide), tix_I rfl hn (by decide), ?_⟩⟩
      · rw [hb] at hK2; exact hK2
      · rintro _ rfl
        rw [if_pos (by simpa using hb)] at hK2
        exact hK2
    · intro K2
      refine brT (by (first | omega | ((try simp (disch := omega) only [L_le, le_L, L_lt, lt_L, eq_L, L_eq, I_le, I_lt, I_eq, I_ni, add_L, L_add, I_add, mul_L, L_mul, I_mul, sub_L, L_sub, I_sub, div_L, rem_L]); done) | ((try simp (disch := omega) only [L_le, le_L, L_lt, lt_L, eq_L, L_eq, I_le, I_lt, I_eq, I_ni, add_L, L_add, I_add, mul_L, L_mul, I_mul, sub_L, L_sub, I_sub, div_L, rem_L]); omega))) ?_
      (try simp (disch := omega) only [L_le, le_L, L_lt, lt_L, eq_L, L_eq, I_le, I_lt, I_eq, I_ni, add_L, L_add, I_add, mul_L, L_mul, I_mul, sub_L, L_sub, I_sub, div_L, rem_L]); exact hK
  · intro K
    exact brT (by (first | omega | ((try simp (disch := omega) only [L_le, le_L, L_lt, lt_L, eq_L, L_eq, I_le, I_lt, I_eq, I_ni, add_L, L_add, I_add, mul_L, L_mul, I_mul, sub_L, L_sub, I_sub, div_L, rem_L]); done) | ((try simp (disch := omega) only [L_le, le_L, L_lt, lt_L, eq_L, L_eq, I_le, I_lt, I_eq, I_ni, add_L, L_add, I_add, mul_L, L_mul, I_mul, sub_L, L_sub, I_sub, div_L, rem_L]); omega))) h
end
section
/-- the twin's row of a grammar. -/
def TG (a : Nat → Int32) (G : Gv) : Prop :=
  (a 0 = I G.nS) ∧
  (a 1 = I G.nP) ∧
  (∀ s, s < G.nS → a (4 + s) = I (G.ins s)) ∧
  (∀ s, s < G.nS → a (12 + s) = I (G.cnt s - G.ins s)) ∧
  (∀ p, p < G.nP → a (20 + p) = I (G.sy p 0)) ∧
  (∀ p, p < G.nP → a (32 + p) = I (G.kn p)) ∧
  (∀ p j, p < G.nP → j < G.kn p → a (44 + 3 * p + j) = I (G.sy p (j + 1))) ∧
  (∀ p o, p < G.nP → o < 32 → a (848 + 32 * p + o) = G.ask p o)
theorem TG.nS {a : Nat → Int32} {G : Gv} (h9 : TG a G) : a 0 = I G.nS := h9.1
theorem TG.nP {a : Nat → Int32} {G : Gv} (h9 : TG a G) : a 1 = I G.nP := h9.2.1
theorem TG.ins {a : Nat → Int32} {G : Gv} (h9 : TG a G) : ∀ s, s < G.nS → a (4 + s) = I (G.ins s) := h9.2.2.1
theorem TG.outs {a : Nat → Int32} {G : Gv} (h9 : TG a G) : ∀ s, s < G.nS → a (12 + s) = I (G.cnt s - G.ins s) := h9.2.2.2.1
theorem TG.left {a : Nat → Int32} {G : Gv} (h9 : TG a G) : ∀ p, p < G.nP → a (20 + p) = I (G.sy p 0) := h9.2.2.2.2.1
theorem TG.kn {a : Nat → Int32} {G : Gv} (h9 : TG a G) : ∀ p, p < G.nP → a (32 + p) = I (G.kn p) := h9.2.2.2.2.2.1
theorem TG.kid {a : Nat → Int32} {G : Gv} (h9 : TG a G) : ∀ p j, p < G.nP → j < G.kn p → a (44 + 3 * p + j) = I (G.sy p (j + 1)) := h9.2.2.2.2.2.2.1
theorem TG.ask {a : Nat → Int32} {G : Gv} (h9 : TG a G) : ∀ p o, p < G.nP → o < 32 → a (848 + 32 * p + o) = G.ask p o := h9.2.2.2.2.2.2.2

variable {G : Gv} {T : TS}

theorem pt_symbolAt {j : Nat} (hj : j = 1 ∨ j = 2) (W : G.WF) {a1 : Nat → Int32} (A : TG a1 G) (ha : T.a j = a1) {p k : Nat} (hp : p < G.nP) (hk : k ≤ G.kn p) {Q : Int32 → TS → Prop}
    (h : Q (I (G.sy p k)) T) : wp_X1_symbolAt j (I p) (I k) T Q := by
  have hP := W.nP
  have hK := W.kn p hp
  have tl : tlen j = 3816 ∧ ttg j = 40 := by rcases hj with rfl | rfl <;> exact ⟨rfl, rfl⟩
  unfold wp_X1_symbolAt
  by_cases e : k = 0
  · subst e
    refine brT rfl ?_
    (try simp (disch := omega) only [L_le, le_L, L_lt, lt_L, eq_L, L_eq, I_le, I_lt, I_eq, I_ni, add_L, L_add, I_add, mul_L, L_mul, I_mul, sub_L, L_sub, I_sub, div_L, rem_L])
    refine ⟨tix_I tl.2 (by omega) (by omega), ?_⟩
    rw [ha, A.left p hp]; exact h
  · refine brF (by (first | omega | ((try simp (disch := omega) only [L_le, le_L, L_lt, lt_L, eq_L, L_eq, I_le, I_lt, I_eq, I_ni, add_L, L_add, I_add, mul_L, L_mul, I_mul, sub_L, L_sub, I_sub, div_L, rem_L]); done) | ((try simp (disch := omega) only [L_le, le_L, L_lt, lt_L, eq_L, L_eq, I_le, I_lt, I_eq, I_ni, add_L, L_add, I_add, mul_L, L_mul, I_mul, sub_L, L_sub, I_sub, div_L, rem_L]); omega))) ?_
    (try simp (disch := omega) only [L_le, le_L, L_lt, lt_L, eq_L, L_eq, I_le, I_lt, I_eq, I_ni, add_L, L_add, I_add, mul_L, L_mul, I_mul, sub_L, L_sub, I_sub, div_L, rem_L])
    refine ⟨tix_I tl.2 (by omega) (by omega), ?_⟩
    have := A.kid p (k - 1) hp (by omega)
    rw [ha, show 44 + 3 * p + k - 1 = 44 + 3 * p + (k - 1) by omega, this, show k - 1 + 1 = k by omega]; exact h

theorem pt_attributesIn {j : Nat} (hj : j = 1 ∨ j = 2) (W : G.WF) {a1 : Nat → Int32} (A : TG a1 G) (ha : T.a j = a1) {s : Nat} (hs : s < G.nS) {Q : Int32 → TS → Prop}
    (h : Q (I (G.cnt s)) T) : wp_X1_attributesIn j (I s) T Q := by
  have hS := W.nS
  have tl : tlen j = 3816 ∧ ttg j = 40 := by rcases hj with rfl | rfl <;> exact ⟨rfl, rfl⟩
  unfold wp_X1_attributesIn
  (try simp (disch := omega) only [L_le, le_L, L_lt, lt_L, eq_L, L_eq, I_le, I_lt, I_eq, I_ni, add_L, L_add, I_add, mul_L, L_mul, I_mul, sub_L, L_sub, I_sub, div_L, rem_L])
  refine ⟨tix_I tl.2 (by omega) (by omega), tix_I tl.2 (by omega) (by omega), ?_⟩
  rw [ha, A.ins s hs, A.outs s hs]
  (try simp (disch := omega) only [L_le, le_L, L_lt, lt_L, eq_L, L_eq, I_le, I_lt, I_eq, I_ni, add_L, L_add, I_add, mul_L, L_mul, I_mul, sub_L, L_sub, I_sub, div_L, rem_L])
  have := W.ic s hs
  rw [show G.ins s + (G.cnt s - G.ins s) = G.cnt s by omega]; exact h

theorem pt_attributes (W : G.WF) {a1 : Nat → Int32} (A : TG a1 G) (ha : T.a 1 = a1) {s : Nat} (hs : s < G.nS) {Q : Int32 → TS → Prop} (h : Q (I (G.cnt s)) T) : wp_X1_attributes (I s) T Q :=
  pt_attributesIn (.inl rfl) W A (by exact ha) hs h

theorem pt_isFrom {x lo hi : Int32} {Q : Int32 → TS → Prop} (h : Q (if lo ≤ x ∧ x ≤ hi then 1 else 0) T) : wp_X1_isFrom x lo hi T Q := by
  intro m hm
  have : m = if lo ≤ x ∧ x ≤ hi then 1 else 0 := by
    rw [hm]
    by_cases h1 : x < lo
    · rw [if_pos h1, if_neg (by intro hh; have := hh.1; lia)]
    · by_cases h2 : hi < x
      · rw [if_neg h1, if_pos h2, if_neg (by intro hh; have := hh.2; lia)]
      · rw [if_neg h1, if_neg h2, if_pos ⟨by lia, by lia⟩]
  rw [this]
  refine ⟨?_, h⟩
  by_cases hb : lo ≤ x ∧ x ≤ hi <;> simp [bz, hb]

theorem pt_asks (W : G.WF) {a1 : Nat → Int32} (A : TG a1 G) (ha : T.a 1 = a1) {p o : Nat} (hp : p < G.nP) (ho : o < 32) {Q : Int32 → TS → Prop} (h : Q (G.ask p o) T) : wp_X1_asks (I p) (I o) T Q := by
  have hP := W.nP
  unfold wp_X1_asks
  (try simp (disch := omega) only [L_le, le_L, L_lt, lt_L, eq_L, L_eq, I_le, I_lt, I_eq, I_ni, add_L, L_add, I_add, mul_L, L_mul, I_mul, sub_L, L_sub, I_sub, div_L, rem_L])
  refine ⟨tix_I rfl (by show _ < 3816; omega) (by decide), ?_⟩
  rw [ha, A.ask p o hp ho]; exact h

theorem pt_laysRules (W : G.WF) {a1 : Nat → Int32} (A : TG a1 G) (ha : T.a 1 = a1) {p : Nat} (hp : p < G.nP) {Q : TS → Prop} (h : Q (T.wa 6 (mixN 32 (G.ask p) (T.a 6)))) : wp_X1_laysRules (I p) T Q := by
  unfold wp_X1_laysRules
  refine tlp_for 32 (fun k => T.wa 6 (mixN k (G.ask p) (T.a 6))) (by rw [mixN_0]; exact wa_self T 6) ?_ ?_
  · intro k K hk hK
    refine brF (by (first | omega | ((try simp (disch := omega) only [L_le, le_L, L_lt, lt_L, eq_L, L_eq, I_le, I_lt, I_eq, I_ni, add_L, L_add, I_add, mul_L, L_mul, I_mul, sub_L, L_sub, I_sub, div_L, rem_L]); done) | ((try simp (disch := omega) only [L_le, le_L, L_lt, lt_L, eq_L, L_eq, I_le, I_lt, I_eq, I_ni, add_L, L_add, I_add, mul_L, L_mul, I_mul, sub_L, L_sub, I_sub, div_L, rem_L]); omega))) ?_
    refine pt_asks W A (by exact ha) hp hk ?_
    refine ⟨tix_I rfl hk (by decide), ?_⟩
    rintro _ rfl
    simp only [sa_wa, wa_wa, wa_a, if_true]
    (try simp (disch := omega) only [L_le, le_L, L_lt, lt_L, eq_L, L_eq, I_le, I_lt, I_eq, I_ni, add_L, L_add, I_add, mul_L, L_mul, I_mul, sub_L, L_sub, I_sub, div_L, rem_L])
    rw [mixN_succ]; exact hK
  · intro K
    exact brT (by (first | omega | ((try simp (disch := omega) only [L_le, le_L, L_lt, lt_L, eq_L, L_eq, I_le, I_lt, I_eq, I_ni, add_L, L_add, I_add, mul_L, L_mul, I_mul, sub_L, L_sub, I_sub, div_L, rem_L]); done) | ((try simp (disch := omega) only [L_le, le_L, L_lt, lt_L, eq_L, L_eq, I_le, I_lt, I_eq, I_ni, add_L, L_add, I_add, mul_L, L_mul, I_mul, sub_L, L_sub, I_sub, div_L, rem_L]); omega))) h

/-- a loop over positions and attributes: the state is told by how many occs are past. -/
theorem pt_addsInduced (W : G.WF) {a1 : Nat → Int32} (A : TG a1 G) (ha : T.a 1 = a1) {p : Nat} (hp : p < G.nP) {Q : TS → Prop} (h : Q (T.wa 6 (G.addI (T.a 5) p (T.a 6)))) : wp_X1_addsInduced (I p) T Q := by
  have hP := W.nP
  have hK3 := W.kn p hp
  unfold wp_X1_addsInduced
  have hskip : ∀ n m, n ≤ m → (∀ o, n ≤ o → o < m → ¬ G.oc p o) → mixN n (G.addI (T.a 5) p (T.a 6)) (T.a 6) = mixN m (G.addI (T.a 5) p (T.a 6)) (T.a 6) := by
    intro n m h1 h2
    refine mixN_skip h1 (fun o a b => ?_)
    simp only [Gv.addI]; rw [if_neg (h2 o a b)]
  refine tlp_for (G.kn p + 1) (fun k => T.wa 6 (mixN (8 * k) (G.addI (T.a 5) p (T.a 6)) (T.a 6))) (by rw [mixN_0]; exact wa_self T 6) ?_ ?_
  · intro k K hk hK
    (try simp (disch := omega) only [L_le, le_L, L_lt, lt_L, eq_L, L_eq, I_le, I_lt, I_eq, I_ni, add_L, L_add, I_add, mul_L, L_mul, I_mul, sub_L, L_sub, I_sub, div_L, rem_L])
    refine ⟨tix_I rfl (by show _ < 3816; omega) (by decide), ?_⟩
    simp only [wa_a, show (1 : Nat) ≠ 6 by decide, if_false]
    rw [ha, A.kn p hp]
    refine brF (by (first | omega | ((try simp (disch := omega) only [L_le, le_L, L_lt, lt_L, eq_L, L_eq, I_le, I_lt, I_eq, I_ni, add_L, L_add, I_add, mul_L, L_mul, I_mul, sub_L, L_sub, I_sub, div_L, rem_L]); done) | ((try simp (disch := omega) only [L_le, le_L, L_lt, lt_L, eq_L, L_eq, I_le, I_lt, I_eq, I_ni, add_L, L_add, I_add, mul_L, L_mul, I_mul, sub_L, L_sub, I_sub, div_L, rem_L]); omega))) ?_
    refine pt_symbolAt (.inl rfl) W A (by exact ha) hp (show k ≤ G.kn p by omega) ?_
    have hs := W.sy p k hp (by omega)
    have hc := W.cnt8 hs
    refine tlp_for (G.cnt (G.sy p k)) (fun n => T.wa 6 (mixN (8 * k + n) (G.addI (T.a 5) p (T.a 6)) (T.a 6))) rfl ?_ ?_
    · intro n K2 hn hK2
      refine pt_attributes W A (by exact ha) hs ?_
      have := W.nS
      refine brF (by (first | omega | ((try simp (disch := omega) only [L_le, le_L, L_lt, lt_L, eq_L, L_eq, I_le, I_lt, I_eq, I_ni, add_L, L_add, I_add, mul_L, L_mul, I_mul, sub_L, L_sub, I_sub, div_L, rem_L]); done) | ((try simp (disch := omega) only [L_le, le_L, L_lt, lt_L, eq_L, L_eq, I_le, I_lt, I_eq, I_ni, add_L, L_add, I_add, mul_L, L_mul, I_mul, sub_L, L_sub, I_sub, div_L, rem_L]); omega))) ?_
      (try simp (disch := omega) only [L_le, le_L, L_lt, lt_L, eq_L, L_eq, I_le, I_lt, I_eq, I_ni, add_L, L_add, I_add, mul_L, L_mul, I_mul, sub_L, L_sub, I_sub, div_L, rem_L])
      refine ⟨tix_I rfl (by show _ < 32; omega) (by decide), tix_I rfl (by show _ < 64; omega) (by decide), tix_I rfl (by show _ < 32; omega) (by decide), ?_⟩
      rintro _ rfl
      simp only [sa_wa, wa_wa, wa_a, if_true, mixN_at, show (5 : Nat) ≠ 6 by decide, if_false]
      have hoc : G.oc p (8 * k + n) := ⟨by omega, by omega, by rw [show (8 * k + n) / 8 = k by omega]; omega⟩
      have e : G.addI (T.a 5) p (T.a 6) (8 * k + n) = T.a 6 (8 * k + n) ||| jshl (T.a 5 (8 * G.sy p k + n)) (I (8 * k)) := by
        simp only [Gv.addI]; rw [if_pos hoc, show (8 * k + n) / 8 = k by omega, show (8 * k + n) % 8 = n by omega]
      rw [← e, mixN_succ]; exact hK2
    · intro K2
      refine pt_attributes W A (by exact ha) hs ?_
      refine brT (by (first | omega | ((try simp (disch := omega) only [L_le, le_L, L_lt, lt_L, eq_L, L_eq, I_le, I_lt, I_eq, I_ni, add_L, L_add, I_add, mul_L, L_mul, I_mul, sub_L, L_sub, I_sub, div_L, rem_L]); done) | ((try simp (disch := omega) only [L_le, le_L, L_lt, lt_L, eq_L, L_eq, I_le, I_lt, I_eq, I_ni, add_L, L_add, I_add, mul_L, L_mul, I_mul, sub_L, L_sub, I_sub, div_L, rem_L]); omega))) ?_
      (try simp (disch := omega) only [L_le, le_L, L_lt, lt_L, eq_L, L_eq, I_le, I_lt, I_eq, I_ni, add_L, L_add, I_add, mul_L, L_mul, I_mul, sub_L, L_sub, I_sub, div_L, rem_L])
      rw [hskip (8 * k + G.cnt (G.sy p k)) (8 * (k + 1)) (by omega) (fun o h1 h2 ho => by
        have := ho.2.2; rw [show o / 8 = k by omega] at this; omega)]
      exact hK
  · intro K
    (try simp (disch := omega) only [L_le, le_L, L_lt, lt_L, eq_L, L_eq, I_le, I_lt, I_eq, I_ni, add_L, L_add, I_add, mul_L, L_mul, I_mul, sub_L, L_sub, I_sub, div_L, rem_L])
    refine ⟨tix_I rfl (by show _ < 3816; omega) (by decide), ?_⟩
    simp only [wa_a, show (1 : Nat) ≠ 6 by decide, if_false]
    rw [ha, A.kn p hp]
    refine brT (by (first | omega | ((try simp (disch := omega) only [L_le, le_L, L_lt, lt_L, eq_L, L_eq, I_le, I_lt, I_eq, I_ni, add_L, L_add, I_add, mul_L, L_mul, I_mul, sub_L, L_sub, I_sub, div_L, rem_L]); done) | ((try simp (disch := omega) only [L_le, le_L, L_lt, lt_L, eq_L, L_eq, I_le, I_lt, I_eq, I_ni, add_L, L_add, I_add, mul_L, L_mul, I_mul, sub_L, L_sub, I_sub, div_L, rem_L]); omega))) ?_
    rw [mixN_all (fun o ho => by
      have : ¬ G.oc p o := fun hc => by have := hc.2.1; omega
      simp only [Gv.addI]; rw [if_neg this])]
    exact h

/-- rows that are the same below 32 -/
theorem addI_mix {ind r r' : Nat → Int32} {p : Nat} (h : ∀ o, o < 32 → r o = r' o) {o : Nat} (ho : o < 32) : G.addI ind p r o = G.addI ind p r' o := by
  simp only [Gv.addI, h o ho]

theorem pt_laysClosed (W : G.WF) {a1 : Nat → Int32} (A : TG a1 G) (ha : T.a 1 = a1) {p : Nat} (hp : p < G.nP) {Q : TS → Prop}
    (h : ∀ r, (∀ o, o < 32 → r o = clo (G.rI (T.a 5) p) o) → Q (T.wa 6 r)) : wp_X1_laysClosed (I p) T Q := by
  unfold wp_X1_laysClosed
  refine pt_laysRules W A (by exact ha) hp ?_
  refine pt_addsInduced W A (by exact ha) hp ?_
  refine pt_closes ?_
  simp only [wa_wa, wa_a, if_true, show (5 : Nat) ≠ 6 by decide, if_false]
  refine h _ (fun o ho => clo_congr (fun x hx => ?_) ho)
  exact addI_mix (fun y hy => by simp [mixN, hy]) hx
end
section
variable {G : Gv} {T : TS}

theorem wa_comm (T : TS) {i j : Nat} (h : i ≠ j) (f g : Nat → Int32) : (T.wa i f).wa j g = (T.wa j g).wa i f := by
  refine Prod.ext rfl (Prod.ext rfl (Prod.ext (funext fun k => ?_) rfl))
  show (if k = j then g else (if k = i then f else T.a k)) = (if k = i then f else (if k = j then g else T.a k))
  by_cases h1 : k = j
  · have : k ≠ i := fun e => h (e.symm.trans h1)
    simp [h1, this]
    intro hh; exact absurd hh.symm h
  · simp [h1]

theorem pt_induces (W : G.WF) {a1 : Nat → Int32} (A : TG a1 G) (ha : T.a 1 = a1) (hz : ∀ i, 64 ≤ i → T.a 5 i = 0) {Q : TS → Prop}
    (h : ∀ ind r, G.IsInd ind → Q ((T.wa 5 ind).wa 6 r)) : wp_X1_induces T Q := by
  have hP := W.nP
  have hS := W.nS
  unfold wp_X1_induces
  refine tlp_for 64 (fun k => T.wa 5 (mixN k (fun _ => 0) (T.a 5))) (by rw [mixN_0]; exact wa_self T 5) ?_ ?_
  · intro k K hk hK
    refine brF (by (first | omega | ((try simp (disch := omega) only [L_le, le_L, L_lt, lt_L, eq_L, L_eq, I_le, I_lt, I_eq, I_ni, add_L, L_add, I_add, mul_L, L_mul, I_mul, sub_L, L_sub, I_sub, div_L, rem_L]); done) | ((try simp (disch := omega) only [L_le, le_L, L_lt, lt_L, eq_L, L_eq, I_le, I_lt, I_eq, I_ni, add_L, L_add, I_add, mul_L, L_mul, I_mul, sub_L, L_sub, I_sub, div_L, rem_L]); omega))) ⟨tix_I rfl (by show _ < 64; omega) (by decide), ?_⟩
    rintro _ rfl
    simp only [sa_wa, wa_wa, wa_a, if_true]
    (try simp (disch := omega) only [L_le, le_L, L_lt, lt_L, eq_L, L_eq, I_le, I_lt, I_eq, I_ni, add_L, L_add, I_add, mul_L, L_mul, I_mul, sub_L, L_sub, I_sub, div_L, rem_L])
    have := mixN_succ (n := k) (fun _ => (0 : Int32)) (T.a 5)
    rw [this]; exact hK
  · intro K
    refine brT (by (first | omega | ((try simp (disch := omega) only [L_le, le_L, L_lt, lt_L, eq_L, L_eq, I_le, I_lt, I_eq, I_ni, add_L, L_add, I_add, mul_L, L_mul, I_mul, sub_L, L_sub, I_sub, div_L, rem_L]); done) | ((try simp (disch := omega) only [L_le, le_L, L_lt, lt_L, eq_L, L_eq, I_le, I_lt, I_eq, I_ni, add_L, L_add, I_add, mul_L, L_mul, I_mul, sub_L, L_sub, I_sub, div_L, rem_L]); omega))) ?_
    rw [mixN_all (fun o ho => (hz o ho).symm)]
    refine ⟨fun n s T' => ∃ k r, T' = (T.wa 5 (G.indK k)).wa 6 r ∧ ((s = 0 ∧ G.indR (G.indK k) G.nP = G.indK k) ∨ (s = 1 ∧ n = 513 - mb (G.indK k))), ⟨513 - mb (G.indK 0), 0, T.a 6, ?_, .inr ⟨rfl, rfl⟩⟩, ?_⟩
    · rw [wa_comm T (by decide), wa_self]; rfl
    rintro n s T' ⟨k, r, rfl, hs⟩
    rcases hs with ⟨rfl, hfix⟩ | ⟨rfl, hn⟩
    · exact brT rfl (h _ _ ⟨hfix, k, rfl⟩)
    refine brF (by decide) ?_
    -- the productions
    refine tlp_cnt G.nP (fun p s T' => s.2 = I p ∧ ∃ r, T' = (T.wa 5 (G.indR (G.indK k) p)).wa 6 r ∧ Flg s.1 (G.indK k) (G.indR (G.indK k) p)) ⟨rfl, r, rfl, .inl ⟨rfl, rfl⟩⟩ ?_
    rintro p ⟨fl, _⟩ T' K2 hp ⟨rfl, r, rfl, hf⟩ hK2
    refine ⟨tix_I (k := 1) rfl (by decide) (by decide), ?_⟩
    simp only [wa_a, show (1 : Nat) ≠ 6 by decide, show (1 : Nat) ≠ 5 by decide, if_false]
    rw [show ni 1 = 1 from rfl, ha, A.nP]
    by_cases e : p = G.nP
    · subst e
      refine brT (by (first | omega | ((try simp (disch := omega) only [L_le, le_L, L_lt, lt_L, eq_L, L_eq, I_le, I_lt, I_eq, I_ni, add_L, L_add, I_add, mul_L, L_mul, I_mul, sub_L, L_sub, I_sub, div_L, rem_L]); done) | ((try simp (disch := omega) only [L_le, le_L, L_lt, lt_L, eq_L, L_eq, I_le, I_lt, I_eq, I_ni, add_L, L_add, I_add, mul_L, L_mul, I_mul, sub_L, L_sub, I_sub, div_L, rem_L]); omega))) ?_
      have hm := mb_le (G.indK k)
      rcases hf with ⟨rfl, hf⟩ | ⟨rfl, hf⟩
      · exact ⟨0, by omega, k + 1, r, rfl, .inl ⟨rfl, by show G.indR (G.indR (G.indK k) G.nP) G.nP = G.indR (G.indK k) G.nP; rw [hf, hf]⟩⟩
      · have hm' := mb_le (G.indR (G.indK k) G.nP)
        exact ⟨513 - mb (G.indK (k + 1)), by show 513 - mb (G.indR (G.indK k) G.nP) < n; omega, k + 1, r, rfl, .inr ⟨rfl, rfl⟩⟩
    have hp' : p < G.nP := by omega
    have hK3 := W.kn p hp'
    refine brF (by (first | omega | ((try simp (disch := omega) only [L_le, le_L, L_lt, lt_L, eq_L, L_eq, I_le, I_lt, I_eq, I_ni, add_L, L_add, I_add, mul_L, L_mul, I_mul, sub_L, L_sub, I_sub, div_L, rem_L]); done) | ((try simp (disch := omega) only [L_le, le_L, L_lt, lt_L, eq_L, L_eq, I_le, I_lt, I_eq, I_ni, add_L, L_add, I_add, mul_L, L_mul, I_mul, sub_L, L_sub, I_sub, div_L, rem_L]); omega))) ?_
    refine pt_laysClosed W A (by exact ha) hp' ?_
    intro rows hrows
    simp only [wa_wa, wa_a, show (5 : Nat) ≠ 6 by decide, if_false, if_true] at hrows ⊢
    have hrow : ∀ o, o < 32 → rows o = clo (G.rI (G.indR (G.indK k) p) p) o := hrows
    -- the occs
    have hstep : ∀ m, G.oc p m → ∀ fl, Flg fl (G.indK k) (G.indN p (clo (G.rI (G.indR (G.indK k) p) p)) m (G.indR (G.indK k) p)) →
        Flg (if fl = 0 then (if (G.indN p (clo (G.rI (G.indR (G.indK k) p) p)) m (G.indR (G.indK k) p) (8 * G.sy p (m / 8) + m % 8) ||| (jushr (rows m) (I (8 * (m / 8))) &&& 255)) = G.indN p (clo (G.rI (G.indR (G.indK k) p) p)) m (G.indR (G.indK k) p) (8 * G.sy p (m / 8) + m % 8) then 0 else 1) else 1) (G.indK k)
          (G.indN p (clo (G.rI (G.indR (G.indK k) p) p)) (m + 1) (G.indR (G.indK k) p)) := by
      intro m hm fl hfl
      have hs := W.ocS hp' hm
      have := hm.2.2; have := W.cnt8 hs
      have := hfl.up (j := 8 * G.sy p (m / 8) + m % 8) (by omega) (x := jushr (rows m) (I (8 * (m / 8))) &&& 255)
        (fun k hk => by rw [its_bt hm.1] at hk; simp at hk; exact hk.2) ((Gv.indR_sub p).trans (Gv.indN_sub m))
      simp only [Gv.indN]
      rw [if_pos hm]
      rw [← hrow m hm.1]; exact this
    refine tlp_cnt (G.kn p + 1) (fun at_ s T' => s.2 = I at_ ∧ T' = (T.wa 5 (G.indN p (clo (G.rI (G.indR (G.indK k) p) p)) (8 * at_) (G.indR (G.indK k) p))).wa 6 rows ∧ Flg s.1 (G.indK k) (G.indN p (clo (G.rI (G.indR (G.indK k) p) p)) (8 * at_) (G.indR (G.indK k) p))) ⟨rfl, rfl, hf⟩ ?_
    rintro q ⟨fl, _⟩ T' K3 hq ⟨rfl, rfl, hf⟩ hK3'
    (try simp (disch := omega) only [L_le, le_L, L_lt, lt_L, eq_L, L_eq, I_le, I_lt, I_eq, I_ni, add_L, L_add, I_add, mul_L, L_mul, I_mul, sub_L, L_sub, I_sub, div_L, rem_L])
    refine ⟨tix_I rfl (by show _ < 3816; omega) (by decide), ?_⟩
    simp only [wa_a, show (1 : Nat) ≠ 6 by decide, show (1 : Nat) ≠ 5 by decide, if_false]
    rw [ha, A.kn p hp']
    by_cases e : q = G.kn p + 1
    · refine brT (by (first | omega | ((try simp (disch := omega) only [L_le, le_L, L_lt, lt_L, eq_L, L_eq, I_le, I_lt, I_eq, I_ni, add_L, L_add, I_add, mul_L, L_mul, I_mul, sub_L, L_sub, I_sub, div_L, rem_L]); done) | ((try simp (disch := omega) only [L_le, le_L, L_lt, lt_L, eq_L, L_eq, I_le, I_lt, I_eq, I_ni, add_L, L_add, I_add, mul_L, L_mul, I_mul, sub_L, L_sub, I_sub, div_L, rem_L]); omega))) ?_
      refine hK2 _ _ hp' ⟨rfl, rows, ?_, ?_⟩
      · show _ = (T.wa 5 (G.indN p (clo (G.rI (G.indR (G.indK k) p) p)) 32 (G.indR (G.indK k) p))).wa 6 rows
        rw [Gv.indN_skip 32 (show 8 * q ≤ 32 by omega) (fun o h1 h2 ho => by have := ho.2.1; omega)]
      · show Flg fl (G.indK k) (G.indN p (clo (G.rI (G.indR (G.indK k) p) p)) 32 (G.indR (G.indK k) p))
        rw [Gv.indN_skip 32 (show 8 * q ≤ 32 by omega) (fun o h1 h2 ho => by have := ho.2.1; omega)]; exact hf
    refine brF (by (first | omega | ((try simp (disch := omega) only [L_le, le_L, L_lt, lt_L, eq_L, L_eq, I_le, I_lt, I_eq, I_ni, add_L, L_add, I_add, mul_L, L_mul, I_mul, sub_L, L_sub, I_sub, div_L, rem_L]); done) | ((try simp (disch := omega) only [L_le, le_L, L_lt, lt_L, eq_L, L_eq, I_le, I_lt, I_eq, I_ni, add_L, L_add, I_add, mul_L, L_mul, I_mul, sub_L, L_sub, I_sub, div_L, rem_L]); omega))) ?_
    refine pt_symbolAt (.inl rfl) W A (by exact ha) hp' (show q ≤ G.kn p by omega) ?_
    have hs := W.sy p q hp' (by omega)
    have hc := W.cnt8 hs
    refine tlp_cnt (G.cnt (G.sy p q)) (fun n s T' => s.2 = I n ∧ T' = (T.wa 5 (G.indN p (clo (G.rI (G.indR (G.indK k) p) p)) (8 * q + n) (G.indR (G.indK k) p))).wa 6 rows ∧ Flg s.1 (G.indK k) (G.indN p (clo (G.rI (G.indR (G.indK k) p) p)) (8 * q + n) (G.indR (G.indK k) p))) ⟨rfl, rfl, hf⟩ ?_
    clear hf
    rintro n ⟨fl, _⟩ T' K4 hn ⟨rfl, rfl, hf⟩ hK4
    refine pt_attributes W A (by exact ha) hs ?_
    by_cases e : n = G.cnt (G.sy p q)
    · refine brT (by (first | omega | ((try simp (disch := omega) only [L_le, le_L, L_lt, lt_L, eq_L, L_eq, I_le, I_lt, I_eq, I_ni, add_L, L_add, I_add, mul_L, L_mul, I_mul, sub_L, L_sub, I_sub, div_L, rem_L]); done) | ((try simp (disch := omega) only [L_le, le_L, L_lt, lt_L, eq_L, L_eq, I_le, I_lt, I_eq, I_ni, add_L, L_add, I_add, mul_L, L_mul, I_mul, sub_L, L_sub, I_sub, div_L, rem_L]); omega))) ?_
      (try simp (disch := omega) only [L_le, le_L, L_lt, lt_L, eq_L, L_eq, I_le, I_lt, I_eq, I_ni, add_L, L_add, I_add, mul_L, L_mul, I_mul, sub_L, L_sub, I_sub, div_L, rem_L])
      have hsk : G.indN p (clo (G.rI (G.indR (G.indK k) p) p)) (8 * (q + 1)) (G.indR (G.indK k) p) = G.indN p (clo (G.rI (G.indR (G.indK k) p) p)) (8 * q + n) (G.indR (G.indK k) p) :=
        Gv.indN_skip _ (by omega) (fun o h1 h2 ho => by have := ho.2.2; rw [show o / 8 = q by omega] at this; omega)
      refine hK3' _ _ (by omega) ⟨rfl, ?_, ?_⟩
      · rw [hsk]
      · rw [hsk]; exact hf
    have hoc : G.oc p (8 * q + n) := ⟨by omega, by omega, by rw [show (8 * q + n) / 8 = q by omega]; omega⟩
    have hst := hstep (8 * q + n) hoc fl hf
    rw [show (8 * q + n) / 8 = q by omega, show (8 * q + n) % 8 = n by omega] at hst
    have hnew : G.indN p (clo (G.rI (G.indR (G.indK k) p) p)) (8 * q + n + 1) (G.indR (G.indK k) p) = updN (G.indN p (clo (G.rI (G.indR (G.indK k) p) p)) (8 * q + n) (G.indR (G.indK k) p)) (8 * G.sy p q + n) (G.indN p (clo (G.rI (G.indR (G.indK k) p) p)) (8 * q + n) (G.indR (G.indK k) p) (8 * G.sy p q + n) ||| (jushr (rows (8 * q + n)) (I (8 * q)) &&& 255)) := by
      simp only [Gv.indN]
      rw [if_pos hoc]
      rw [show (8 * q + n) / 8 = q by omega, show (8 * q + n) % 8 = n by omega, hrow _ hoc.1]
    refine brF (by (first | omega | ((try simp (disch := omega) only [L_le, le_L, L_lt, lt_L, eq_L, L_eq, I_le, I_lt, I_eq, I_ni, add_L, L_add, I_add, mul_L, L_mul, I_mul, sub_L, L_sub, I_sub, div_L, rem_L]); done) | ((try simp (disch := omega) only [L_le, le_L, L_lt, lt_L, eq_L, L_eq, I_le, I_lt, I_eq, I_ni, add_L, L_add, I_add, mul_L, L_mul, I_mul, sub_L, L_sub, I_sub, div_L, rem_L]); omega))) ?_
    (try simp (disch := omega) only [L_le, le_L, L_lt, lt_L, eq_L, L_eq, I_le, I_lt, I_eq, I_ni, add_L, L_add, I_add, mul_L, L_mul, I_mul, sub_L, L_sub, I_sub, div_L, rem_L])
    refine ⟨tix_I rfl (by show _ < 64; omega) (by decide), tix_I rfl (by show _ < 32; omega) (by decide), ?_⟩
    simp only [wa_a, show (5 : Nat) ≠ 6 by decide, if_true, if_false]
    by_cases hfl : fl = 0
    · subst hfl
      refine brT rfl ⟨tix_I rfl (by show _ < 64; omega) (by decide), ?_⟩
      rintro m rfl
      refine ⟨tix_I rfl (by show _ < 64; omega) (by decide), ?_⟩
      rintro _ rfl
      refine hK4 _ _ (by omega) ⟨rfl, ?_, ?_⟩
      · rw [show 8 * q + (n + 1) = 8 * q + n + 1 by omega, hnew, sa_wa, wa_comm _ (by decide)]
        simp only [wa_wa, wa_a, show (5 : Nat) ≠ 6 by decide, if_true, if_false]
      · rw [if_pos rfl] at hst; exact hst
    · refine brF hfl ⟨tix_I rfl (by show _ < 64; omega) (by decide), ?_⟩
      rintro _ rfl
      refine hK4 _ _ (by omega) ⟨rfl, ?_, ?_⟩
      · rw [show 8 * q + (n + 1) = 8 * q + n + 1 by omega, hnew, sa_wa, wa_comm _ (by decide)]
        simp only [wa_wa, wa_a, show (5 : Nat) ≠ 6 by decide, if_true, if_false]
      · rw [if_neg hfl] at hst; exact hst
end
section
variable {G : Gv} {T : TS}

/-- a loop that looks for the first: the state stays. -/
theorem tlp_find {B : Int32 → TS → (Int32 → TS → Prop) → Prop} (N : Nat) (P : Nat → Bool)
    (he : fstN P N = none → ∀ K, B (I N) T K) (hi : ∀ k K, k < N → P k = true → fstN P N = some k → B (I k) T K)
    (hs : ∀ k K, k < N → P k = false → K (I (k + 1)) T → B (I k) T K) : tlp B (I 0) T := by
  refine tlp_cnt N (fun k s T' => s = I k ∧ T' = T ∧ fstN P k = none) ⟨rfl, rfl, rfl⟩ ?_
  rintro k s T' K hk ⟨rfl, rfl, hn⟩ hK
  by_cases e : k = N
  · subst e; exact he hn K
  · have hk' : k < N := by omega
    cases hp : P k with
    | true => exact hi k K hk' hp (fstN_some.2 ⟨hk', hp, fstN_none.1 hn⟩)
    | false => exact hs k K hk' hp (hK _ _ hk' ⟨rfl, rfl, fstN_none.2 (fun j hj => by
        by_cases e : j = k
        · rw [e]; exact hp
        · exact fstN_none.1 hn j (by omega))⟩)


theorem pt_firstSelf {Q : Int32 → TS → Prop} (h : Q (oI (fself (T.a 6))) T) : wp_X1_firstSelf T Q := by
  unfold wp_X1_firstSelf
  refine tlp_find 32 (fun o => bt (T.a 6 o) o) ?_ ?_ ?_
  · intro hn K
    refine brT (by (first | omega | ((try simp (disch := omega) only [L_le, le_L, L_lt, lt_L, eq_L, L_eq, I_le, I_lt, I_eq, I_ni, add_L, L_add, I_add, mul_L, L_mul, I_mul, sub_L, L_sub, I_sub, div_L, rem_L]); done) | ((try simp (disch := omega) only [L_le, le_L, L_lt, lt_L, eq_L, L_eq, I_le, I_lt, I_eq, I_ni, add_L, L_add, I_add, mul_L, L_mul, I_mul, sub_L, L_sub, I_sub, div_L, rem_L]); omega))) ?_
    rw [fself, hn] at h; exact h
  · intro k K hk hp hf
    refine brF (by (first | omega | ((try simp (disch := omega) only [L_le, le_L, L_lt, lt_L, eq_L, L_eq, I_le, I_lt, I_eq, I_ni, add_L, L_add, I_add, mul_L, L_mul, I_mul, sub_L, L_sub, I_sub, div_L, rem_L]); done) | ((try simp (disch := omega) only [L_le, le_L, L_lt, lt_L, eq_L, L_eq, I_le, I_lt, I_eq, I_ni, add_L, L_add, I_add, mul_L, L_mul, I_mul, sub_L, L_sub, I_sub, div_L, rem_L]); omega))) ⟨tix_I rfl hk (by decide), pt_has hk ?_⟩
    rw [I_ni (by omega), if_pos hp]
    refine brF (by decide) ?_
    rw [fself, hf] at h; exact h
  · intro k K hk hp hK
    refine brF (by (first | omega | ((try simp (disch := omega) only [L_le, le_L, L_lt, lt_L, eq_L, L_eq, I_le, I_lt, I_eq, I_ni, add_L, L_add, I_add, mul_L, L_mul, I_mul, sub_L, L_sub, I_sub, div_L, rem_L]); done) | ((try simp (disch := omega) only [L_le, le_L, L_lt, lt_L, eq_L, L_eq, I_le, I_lt, I_eq, I_ni, add_L, L_add, I_add, mul_L, L_mul, I_mul, sub_L, L_sub, I_sub, div_L, rem_L]); omega))) ⟨tix_I rfl hk (by decide), pt_has hk ?_⟩
    rw [I_ni (by omega), if_neg (by simpa using hp)]
    refine brT rfl ?_
    (try simp (disch := omega) only [L_le, le_L, L_lt, lt_L, eq_L, L_eq, I_le, I_lt, I_eq, I_ni, add_L, L_add, I_add, mul_L, L_mul, I_mul, sub_L, L_sub, I_sub, div_L, rem_L]); exact hK


theorem pt_isSelf (W : G.WF) {a1 : Nat → Int32} (A : TG a1 G) (ha : T.a 1 = a1) {s : Nat} (hs : s < G.nS) {Q : Int32 → TS → Prop}
    (h : Q (if G.self (T.a 5) s then 1 else 0) T) : wp_X1_isSelf (I s) T Q := by
  have hS := W.nS
  have hc := W.cnt8 hs
  unfold wp_X1_isSelf
  refine tlp_find (G.cnt s) (fun a => bt (T.a 5 (8 * s + a)) a) ?_ ?_ ?_
  · intro hn K
    refine pt_attributes W A (by exact ha) hs ?_
    refine brT (by (first | omega | ((try simp (disch := omega) only [L_le, le_L, L_lt, lt_L, eq_L, L_eq, I_le, I_lt, I_eq, I_ni, add_L, L_add, I_add, mul_L, L_mul, I_mul, sub_L, L_sub, I_sub, div_L, rem_L]); done) | ((try simp (disch := omega) only [L_le, le_L, L_lt, lt_L, eq_L, L_eq, I_le, I_lt, I_eq, I_ni, add_L, L_add, I_add, mul_L, L_mul, I_mul, sub_L, L_sub, I_sub, div_L, rem_L]); omega))) ?_
    rw [Gv.self, hn] at h; exact h
  · intro k K hk hp hf
    refine pt_attributes W A (by exact ha) hs ?_
    refine brF (by (first | omega | ((try simp (disch := omega) only [L_le, le_L, L_lt, lt_L, eq_L, L_eq, I_le, I_lt, I_eq, I_ni, add_L, L_add, I_add, mul_L, L_mul, I_mul, sub_L, L_sub, I_sub, div_L, rem_L]); done) | ((try simp (disch := omega) only [L_le, le_L, L_lt, lt_L, eq_L, L_eq, I_le, I_lt, I_eq, I_ni, add_L, L_add, I_add, mul_L, L_mul, I_mul, sub_L, L_sub, I_sub, div_L, rem_L]); omega))) ?_
    (try simp (disch := omega) only [L_le, le_L, L_lt, lt_L, eq_L, L_eq, I_le, I_lt, I_eq, I_ni, add_L, L_add, I_add, mul_L, L_mul, I_mul, sub_L, L_sub, I_sub, div_L, rem_L])
    refine ⟨tix_I rfl (by show _ < 64; omega) (by decide), pt_has (by omega) ?_⟩
    rw [if_pos hp]
    refine brF (by decide) ?_
    rw [Gv.self, hf] at h; exact h
  · intro k K hk hp hK
    refine pt_attributes W A (by exact ha) hs ?_
    refine brF (by (first | omega | ((try simp (disch := omega) only [L_le, le_L, L_lt, lt_L, eq_L, L_eq, I_le, I_lt, I_eq, I_ni, add_L, L_add, I_add, mul_L, L_mul, I_mul, sub_L, L_sub, I_sub, div_L, rem_L]); done) | ((try simp (disch := omega) only [L_le, le_L, L_lt, lt_L, eq_L, L_eq, I_le, I_lt, I_eq, I_ni, add_L, L_add, I_add, mul_L, L_mul, I_mul, sub_L, L_sub, I_sub, div_L, rem_L]); omega))) ?_
    (try simp (disch := omega) only [L_le, le_L, L_lt, lt_L, eq_L, L_eq, I_le, I_lt, I_eq, I_ni, add_L, L_add, I_add, mul_L, L_mul, I_mul, sub_L, L_sub, I_sub, div_L, rem_L])
    refine ⟨tix_I rfl (by show _ < 64; omega) (by decide), pt_has (by omega) ?_⟩
    rw [if_neg (by simpa using hp)]
    refine brT rfl ?_
    exact hK


theorem pt_isSelfIn (W : G.WF) {a1 : Nat → Int32} (A : TG a1 G) (ha : T.a 1 = a1) {p : Nat} (hp : p < G.nP) {Q : Int32 → TS → Prop}
    (h : Q (if G.selfIn (T.a 5) p then 1 else 0) T) : wp_X1_isSelfIn (I p) T Q := by
  have hP := W.nP
  have hK3 := W.kn p hp
  unfold wp_X1_isSelfIn
  refine tlp_find (G.kn p + 1) (fun k => G.self (T.a 5) (G.sy p k)) ?_ ?_ ?_
  · intro hn K
    (try simp (disch := omega) only [L_le, le_L, L_lt, lt_L, eq_L, L_eq, I_le, I_lt, I_eq, I_ni, add_L, L_add, I_add, mul_L, L_mul, I_mul, sub_L, L_sub, I_sub, div_L, rem_L])
    refine ⟨tix_I rfl (by show _ < 3816; omega) (by decide), ?_⟩
    rw [ha, A.kn p hp]
    refine brT (by (first | omega | ((try simp (disch := omega) only [L_le, le_L, L_lt, lt_L, eq_L, L_eq, I_le, I_lt, I_eq, I_ni, add_L, L_add, I_add, mul_L, L_mul, I_mul, sub_L, L_sub, I_sub, div_L, rem_L]); done) | ((try simp (disch := omega) only [L_le, le_L, L_lt, lt_L, eq_L, L_eq, I_le, I_lt, I_eq, I_ni, add_L, L_add, I_add, mul_L, L_mul, I_mul, sub_L, L_sub, I_sub, div_L, rem_L]); omega))) ?_
    rw [Gv.selfIn, hn] at h; exact h
  · intro k K hk hpk hf
    (try simp (disch := omega) only [L_le, le_L, L_lt, lt_L, eq_L, L_eq, I_le, I_lt, I_eq, I_ni, add_L, L_add, I_add, mul_L, L_mul, I_mul, sub_L, L_sub, I_sub, div_L, rem_L])
    refine ⟨tix_I rfl (by show _ < 3816; omega) (by decide), ?_⟩
    rw [ha, A.kn p hp]
    refine brF (by (first | omega | ((try simp (disch := omega) only [L_le, le_L, L_lt, lt_L, eq_L, L_eq, I_le, I_lt, I_eq, I_ni, add_L, L_add, I_add, mul_L, L_mul, I_mul, sub_L, L_sub, I_sub, div_L, rem_L]); done) | ((try simp (disch := omega) only [L_le, le_L, L_lt, lt_L, eq_L, L_eq, I_le, I_lt, I_eq, I_ni, add_L, L_add, I_add, mul_L, L_mul, I_mul, sub_L, L_sub, I_sub, div_L, rem_L]); omega))) ?_
    refine pt_symbolAt (.inl rfl) W A (by exact ha) hp (show k ≤ G.kn p by omega) ?_
    refine pt_isSelf W A (by exact ha) (W.sy p k hp (by omega)) ?_
    rw [if_pos hpk]
    refine brF (by decide) ?_
    rw [Gv.selfIn, hf] at h; exact h
  · intro k K hk hpk hK
    (try simp (disch := omega) only [L_le, le_L, L_lt, lt_L, eq_L, L_eq, I_le, I_lt, I_eq, I_ni, add_L, L_add, I_add, mul_L, L_mul, I_mul, sub_L, L_sub, I_sub, div_L, rem_L])
    refine ⟨tix_I rfl (by show _ < 3816; omega) (by decide), ?_⟩
    rw [ha, A.kn p hp]
    refine brF (by (first | omega | ((try simp (disch := omega) only [L_le, le_L, L_lt, lt_L, eq_L, L_eq, I_le, I_lt, I_eq, I_ni, add_L, L_add, I_add, mul_L, L_mul, I_mul, sub_L, L_sub, I_sub, div_L, rem_L]); done) | ((try simp (disch := omega) only [L_le, le_L, L_lt, lt_L, eq_L, L_eq, I_le, I_lt, I_eq, I_ni, add_L, L_add, I_add, mul_L, L_mul, I_mul, sub_L, L_sub, I_sub, div_L, rem_L]); omega))) ?_
    refine pt_symbolAt (.inl rfl) W A (by exact ha) hp (show k ≤ G.kn p by omega) ?_
    refine pt_isSelf W A (by exact ha) (W.sy p k hp (by omega)) ?_
    rw [if_neg (by simpa using hpk)]
    refine brT rfl ?_
    exact hK
end
section
variable {G : Gv} {T : TS}

theorem I0 {n : Nat} (h : n < 2147483648) : I n = 0 ↔ n = 0 := eq_L 0 (by decide) h
theorem b01 {b : Bool} : (if b = true then (1 : Int32) else 0) = 1 ↔ b = true := by cases b <;> simp

theorem pt_isFree (W : G.WF) {a1 : Nat → Int32} (A : TG a1 G) (ha : T.a 1 = a1) {s a : Nat} (hs : s < G.nS) (ha' : a < 8) {so : Nat → Nat} (hso : ∀ x, x < 8 → T.a 10 x = I (so x)) (hb : ∀ x, so x < 100)
    {Q : Int32 → TS → Prop} (h : Q (if fre (G.cnt s) (fun a => T.a 5 (8 * s + a)) so a then 1 else 0) T) : wp_X1_isFree (I s) (I a) T Q := by
  have hS := W.nS
  have hc := W.cnt8 hs
  unfold wp_X1_isFree
  refine tlp_find (G.cnt s) (fun e => decide (so e = 0) && bt (T.a 5 (8 * s + e)) a) ?_ ?_ ?_
  · intro hn K
    refine pt_attributes W A (by exact ha) hs ?_
    refine brT (by (first | omega | ((try simp (disch := omega) only [L_le, le_L, L_lt, lt_L, eq_L, L_eq, I_le, I_lt, I_eq, I_ni, add_L, L_add, I_add, mul_L, L_mul, I_mul, sub_L, L_sub, I_sub, div_L, rem_L]); done) | ((try simp (disch := omega) only [L_le, le_L, L_lt, lt_L, eq_L, L_eq, I_le, I_lt, I_eq, I_ni, add_L, L_add, I_add, mul_L, L_mul, I_mul, sub_L, L_sub, I_sub, div_L, rem_L]); omega))) ?_
    rw [fre, hn] at h; exact h
  · intro k K hk hp hf
    simp only [Bool.and_eq_true, decide_eq_true_eq] at hp
    refine pt_attributes W A (by exact ha) hs ?_
    refine brF (by (first | omega | ((try simp (disch := omega) only [L_le, le_L, L_lt, lt_L, eq_L, L_eq, I_le, I_lt, I_eq, I_ni, add_L, L_add, I_add, mul_L, L_mul, I_mul, sub_L, L_sub, I_sub, div_L, rem_L]); done) | ((try simp (disch := omega) only [L_le, le_L, L_lt, lt_L, eq_L, L_eq, I_le, I_lt, I_eq, I_ni, add_L, L_add, I_add, mul_L, L_mul, I_mul, sub_L, L_sub, I_sub, div_L, rem_L]); omega))) ?_
    refine ⟨tix_I rfl (by show _ < 8; omega) (by decide), ?_⟩
    rw [I_ni (by omega), hso k (by omega), hp.1]
    refine brT rfl ?_
    (try simp (disch := omega) only [L_le, le_L, L_lt, lt_L, eq_L, L_eq, I_le, I_lt, I_eq, I_ni, add_L, L_add, I_add, mul_L, L_mul, I_mul, sub_L, L_sub, I_sub, div_L, rem_L])
    refine ⟨tix_I rfl (by show _ < 64; omega) (by decide), pt_has (by omega) ?_⟩
    rw [if_pos hp.2]
    refine brF (by decide) ?_
    rw [fre, hf] at h; exact h
  · intro k K hk hp hK
    refine pt_attributes W A (by exact ha) hs ?_
    refine brF (by (first | omega | ((try simp (disch := omega) only [L_le, le_L, L_lt, lt_L, eq_L, L_eq, I_le, I_lt, I_eq, I_ni, add_L, L_add, I_add, mul_L, L_mul, I_mul, sub_L, L_sub, I_sub, div_L, rem_L]); done) | ((try simp (disch := omega) only [L_le, le_L, L_lt, lt_L, eq_L, L_eq, I_le, I_lt, I_eq, I_ni, add_L, L_add, I_add, mul_L, L_mul, I_mul, sub_L, L_sub, I_sub, div_L, rem_L]); omega))) ?_
    refine ⟨tix_I rfl (by show _ < 8; omega) (by decide), ?_⟩
    rw [I_ni (by omega), hso k (by omega)]
    by_cases h0 : so k = 0
    · have hp' : bt (T.a 5 (8 * s + k)) a = false := by simpa [h0] using hp
      rw [h0]
      refine brT rfl ?_
      (try simp (disch := omega) only [L_le, le_L, L_lt, lt_L, eq_L, L_eq, I_le, I_lt, I_eq, I_ni, add_L, L_add, I_add, mul_L, L_mul, I_mul, sub_L, L_sub, I_sub, div_L, rem_L])
      refine ⟨tix_I rfl (by show _ < 64; omega) (by decide), pt_has (by omega) ?_⟩
      rw [if_neg (by simpa using hp')]
      refine brT rfl ?_
      exact hK
    · refine brF (by have := hb k; rw [I0 (by omega)]; exact h0) ?_
      (try simp (disch := omega) only [L_le, le_L, L_lt, lt_L, eq_L, L_eq, I_le, I_lt, I_eq, I_ni, add_L, L_add, I_add, mul_L, L_mul, I_mul, sub_L, L_sub, I_sub, div_L, rem_L]); exact hK

theorem pt_fillsSet (W : G.WF) {a1 : Nat → Int32} (A : TG a1 G) (ha : T.a 1 = a1) {s v : Nat} (hs : s < G.nS) (hv : T.s 231 = I v) (hv0 : v ≠ 0) (hv1 : v < 100) {so : Nat → Nat} (hso : ∀ x, x < 8 → T.a 10 x = I (so x)) (hb : ∀ x, so x < 100)
    {Q : TS → Prop} (h : ∀ f so', Fil (G.cnt s) (G.ins s) (fun a => T.a 5 (8 * s + a)) v so so' → (∀ x, x < 8 → f x = I (so' x)) → Q (T.wa 10 f)) :
    wp_X1_fillsSet (I s) (if decide (v % 2 = 1) = true then 1 else 0) T Q := by
  have hS := W.nS
  have hc := W.cnt8 hs
  have hbK : ∀ k x, oPsK (G.cnt s) (G.ins s) (fun a => T.a 5 (8 * s + a)) v so k x < 100 := by
    intro k x
    rcases oPsK_val (c := G.cnt s) (ins := G.ins s) (row := fun a => T.a 5 (8 * s + a)) (v := v) (so := so) (x := x) k with h | h
    · rw [h]; exact hb x
    · rw [h]; exact hv1
  unfold wp_X1_fillsSet
  refine ⟨fun n fl T' => ∃ k f, T' = T.wa 10 f ∧ (∀ x, x < 8 → f x = I (oPsK (G.cnt s) (G.ins s) (fun a => T.a 5 (8 * s + a)) v so k x)) ∧
    ((fl = 0 ∧ oPsN (G.cnt s) (G.ins s) (fun a => T.a 5 (8 * s + a)) v (G.cnt s) (oPsK (G.cnt s) (G.ins s) (fun a => T.a 5 (8 * s + a)) v so k) = oPsK (G.cnt s) (G.ins s) (fun a => T.a 5 (8 * s + a)) v so k) ∨
     (fl = 1 ∧ n = 1 + zer (G.cnt s) (oPsK (G.cnt s) (G.ins s) (fun a => T.a 5 (8 * s + a)) v so k))), ⟨_, 0, T.a 10, (wa_self T 10).symm, hso, .inr ⟨rfl, rfl⟩⟩, ?_⟩
  rintro n fl T' ⟨k, f, rfl, hf, hfl⟩
  rcases hfl with ⟨rfl, hfix⟩ | ⟨rfl, rfl⟩
  · exact brT rfl (h f _ ⟨hfix, k, rfl⟩ hf)
  refine brF (by decide) ?_
  have hbN : ∀ m x, oPsN (G.cnt s) (G.ins s) (fun a => T.a 5 (8 * s + a)) v m (oPsK (G.cnt s) (G.ins s) (fun a => T.a 5 (8 * s + a)) v so k) x < 100 := by
    intro m x
    rcases oPsN_val (c := G.cnt s) (ins := G.ins s) (row := fun a => T.a 5 (8 * s + a)) (v := v) (so := oPsK (G.cnt s) (G.ins s) (fun a => T.a 5 (8 * s + a)) v so k) (x := x) m with h | h
    · rw [h]; exact hbK k x
    · rw [h]; exact hv1
  refine tlp_cnt (G.cnt s) (fun m q T' => q.2 = I m ∧ ∃ f, T' = T.wa 10 f ∧ (∀ x, x < 8 → f x = I (oPsN (G.cnt s) (G.ins s) (fun a => T.a 5 (8 * s + a)) v m (oPsK (G.cnt s) (G.ins s) (fun a => T.a 5 (8 * s + a)) v so k) x)) ∧
    ((q.1 = 0 ∧ zer (G.cnt s) (oPsN (G.cnt s) (G.ins s) (fun a => T.a 5 (8 * s + a)) v m (oPsK (G.cnt s) (G.ins s) (fun a => T.a 5 (8 * s + a)) v so k)) = zer (G.cnt s) (oPsK (G.cnt s) (G.ins s) (fun a => T.a 5 (8 * s + a)) v so k)) ∨
     (q.1 = 1 ∧ zer (G.cnt s) (oPsN (G.cnt s) (G.ins s) (fun a => T.a 5 (8 * s + a)) v m (oPsK (G.cnt s) (G.ins s) (fun a => T.a 5 (8 * s + a)) v so k)) < zer (G.cnt s) (oPsK (G.cnt s) (G.ins s) (fun a => T.a 5 (8 * s + a)) v so k)))) ⟨rfl, f, rfl, hf, .inl ⟨rfl, rfl⟩⟩ ?_
  clear hf f
  rintro m ⟨q, _⟩ T' K hm ⟨rfl, f, rfl, hf, hq⟩ hK
  refine pt_attributes W A (by exact ha) hs ?_
  by_cases e : m = G.cnt s
  · subst e
    refine brT (by (first | omega | ((try simp (disch := omega) only [L_le, le_L, L_lt, lt_L, eq_L, L_eq, I_le, I_lt, I_eq, I_ni, add_L, L_add, I_add, mul_L, L_mul, I_mul, sub_L, L_sub, I_sub, div_L, rem_L]); done) | ((try simp (disch := omega) only [L_le, le_L, L_lt, lt_L, eq_L, L_eq, I_le, I_lt, I_eq, I_ni, add_L, L_add, I_add, mul_L, L_mul, I_mul, sub_L, L_sub, I_sub, div_L, rem_L]); omega))) ?_
    rcases hq with ⟨rfl, hq⟩ | ⟨rfl, hq⟩
    · have := oPsN_same hv0 (G.cnt s) (Nat.le_refl _) _ hq
      refine ⟨0, by omega, k + 1, f, rfl, hf, .inl ⟨rfl, ?_⟩⟩
      show oPsN _ _ _ _ _ (oPsN _ _ _ _ _ _) = oPsN _ _ _ _ _ _
      rw [this, this]
    · exact ⟨_, by show 1 + zer _ (oPsN _ _ _ _ _ _) < _; omega, k + 1, f, rfl, hf, .inr ⟨rfl, rfl⟩⟩
  have hm' : m < G.cnt s := by omega
  refine brF (by (first | omega | ((try simp (disch := omega) only [L_le, le_L, L_lt, lt_L, eq_L, L_eq, I_le, I_lt, I_eq, I_ni, add_L, L_add, I_add, mul_L, L_mul, I_mul, sub_L, L_sub, I_sub, div_L, rem_L]); done) | ((try simp (disch := omega) only [L_le, le_L, L_lt, lt_L, eq_L, L_eq, I_le, I_lt, I_eq, I_ni, add_L, L_add, I_add, mul_L, L_mul, I_mul, sub_L, L_sub, I_sub, div_L, rem_L]); omega))) ?_
  refine ⟨tix_I rfl (by show _ < 8; omega) (by decide), ?_⟩
  simp only [wa_a, if_true, show (1 : Nat) ≠ 10 by decide, if_false]
  rw [I_ni (by omega), hf m (by omega)]
  have hnext : ¬ (oPsN (G.cnt s) (G.ins s) (fun a => T.a 5 (8 * s + a)) v m (oPsK (G.cnt s) (G.ins s) (fun a => T.a 5 (8 * s + a)) v so k) m = 0 ∧ sid (G.ins s) v m = true ∧ fre (G.cnt s) (fun a => T.a 5 (8 * s + a)) (oPsN (G.cnt s) (G.ins s) (fun a => T.a 5 (8 * s + a)) v m (oPsK (G.cnt s) (G.ins s) (fun a => T.a 5 (8 * s + a)) v so k)) m = true) →
      K (q, I (m + 1)) (T.wa 10 f) := by
    intro hc
    refine hK _ _ hm' ⟨rfl, f, rfl, ?_, ?_⟩
    · simp only [oPsN, hc, if_false]; exact hf
    · simp only [oPsN, hc, if_false]; exact hq
  by_cases h0 : oPsN (G.cnt s) (G.ins s) (fun a => T.a 5 (8 * s + a)) v m (oPsK (G.cnt s) (G.ins s) (fun a => T.a 5 (8 * s + a)) v so k) m = 0
  · rw [h0]
    refine brT rfl ?_
    (try simp (disch := omega) only [L_le, le_L, L_lt, lt_L, eq_L, L_eq, I_le, I_lt, I_eq, I_ni, add_L, L_add, I_add, mul_L, L_mul, I_mul, sub_L, L_sub, I_sub, div_L, rem_L])
    refine ⟨tix_I rfl (by show _ < 3816; omega) (by decide), ?_⟩
    rintro m10 rfl
    rw [ha, A.ins s hs]
    have hi := W.ins s hs
    have hsid : ((if I m < I (G.ins s) then (0 : Int32) else 1) = (if decide (v % 2 = 1) = true then 1 else 0)) ↔ sid (G.ins s) v m = true := by
      simp only [sid]
      by_cases h1 : m < G.ins s
      · have : ¬ G.ins s ≤ m := by omega
        rw [if_pos ((I_lt (by omega) (by omega)).2 h1)]
        by_cases h2 : v % 2 = 1 <;> simp [h2, this]
      · have : G.ins s ≤ m := by omega
        rw [if_neg (fun hh => h1 ((I_lt (by omega) (by omega)).1 hh))]
        by_cases h2 : v % 2 = 1 <;> simp [h2, this]
    by_cases hsd : sid (G.ins s) v m = true
    · refine brT (hsid.2 hsd) ?_
      refine pt_isFree W A (by exact ha) hs (by omega) (T := T.wa 10 f) (so := oPsN (G.cnt s) (G.ins s) (fun a => T.a 5 (8 * s + a)) v m (oPsK (G.cnt s) (G.ins s) (fun a => T.a 5 (8 * s + a)) v so k)) hf (hbN m) ?_
      simp only [wa_a, show (5 : Nat) ≠ 10 by decide, if_false]
      by_cases hfr : fre (G.cnt s) (fun a => T.a 5 (8 * s + a)) (oPsN (G.cnt s) (G.ins s) (fun a => T.a 5 (8 * s + a)) v m (oPsK (G.cnt s) (G.ins s) (fun a => T.a 5 (8 * s + a)) v so k)) m = true
      · rw [if_pos hfr]
        refine brF (by decide) ⟨tix_I rfl (by show _ < 8; omega) (by decide), ?_⟩
        rintro _ rfl
        refine hK _ _ hm' ⟨rfl, updN f m (I v), ?_, ?_, .inr ⟨rfl, ?_⟩⟩
        · rw [sa_wa, wa_wa, wa_s, hv, wa_a, if_pos rfl]
        · intro x hx
          simp only [oPsN, h0, hsd, hfr, and_self, if_true, updN]
          by_cases e : x = m
          · simp [e]
          · simp [e, hf x hx]
        · have e : oPsN (G.cnt s) (G.ins s) (fun a => T.a 5 (8 * s + a)) v (m + 1) (oPsK (G.cnt s) (G.ins s) (fun a => T.a 5 (8 * s + a)) v so k) = updN (oPsN (G.cnt s) (G.ins s) (fun a => T.a 5 (8 * s + a)) v m (oPsK (G.cnt s) (G.ins s) (fun a => T.a 5 (8 * s + a)) v so k)) m v := by
            simp only [oPsN, h0, hsd, hfr, and_self, if_true]
          rw [e]
          have h1 := (Mor.upd (v := v) h0).zer_lt (c := G.cnt s) hm' h0 (by rw [updN_same]; exact hv0)
          rcases hq with ⟨_, hq⟩ | ⟨_, hq⟩ <;> omega
      · rw [if_neg hfr]
        exact brT rfl (hnext (fun hc => hfr hc.2.2))
    · exact brF (fun hc => hsd (hsid.1 hc)) (hnext (fun hc => hsd hc.2.1))
  · refine brF (by rw [I0 (by have := hbN m m; omega)]; exact h0) ?_
    (try simp (disch := omega) only [L_le, le_L, L_lt, lt_L, eq_L, L_eq, I_le, I_lt, I_eq, I_ni, add_L, L_add, I_add, mul_L, L_mul, I_mul, sub_L, L_sub, I_sub, div_L, rem_L])
    exact hnext (fun hc => h0 hc.1)
end
section
variable {G : Gv} {T : TS}

/-- what is changed: arrays, numbers. -/
def Tch (A S : List Nat) (T T' : TS) : Prop :=
  (∀ j, j ∉ A → T'.a j = T.a j) ∧
  (∀ F, F ∉ S → T'.s F = T.s F) ∧
  (T'.w = T.w) ∧
  (T'.l = T.l)
theorem Tch.a {A S : List Nat} {T T' : TS} (h9 : Tch A S T T') : ∀ j, j ∉ A → T'.a j = T.a j := h9.1
theorem Tch.s {A S : List Nat} {T T' : TS} (h9 : Tch A S T T') : ∀ F, F ∉ S → T'.s F = T.s F := h9.2.1
theorem Tch.w {A S : List Nat} {T T' : TS} (h9 : Tch A S T T') : T'.w = T.w := h9.2.2.1
theorem Tch.l {A S : List Nat} {T T' : TS} (h9 : Tch A S T T') : T'.l = T.l := h9.2.2.2

theorem Tch.refl {A S : List Nat} (T : TS) : Tch A S T T := ⟨fun _ _ => rfl, fun _ _ => rfl, rfl, rfl⟩
theorem Tch.trans {A S : List Nat} {T U V : TS} (h : Tch A S T U) (g : Tch A S U V) : Tch A S T V :=
  ⟨fun j hj => (g.a j hj).trans (h.a j hj), fun j hj => (g.s j hj).trans (h.s j hj), g.w.trans h.w, g.l.trans h.l⟩
theorem Tch.mono {A S A' S' : List Nat} {T U : TS} (h : Tch A S T U) (hA : ∀ j, j ∈ A → j ∈ A') (hS : ∀ j, j ∈ S → j ∈ S') : Tch A' S' T U :=
  ⟨fun j hj => h.a j (fun hh => hj (hA j hh)), fun j hj => h.s j (fun hh => hj (hS j hh)), h.w, h.l⟩
theorem Tch.wa {A S : List Nat} {T U : TS} (h : Tch A S T U) {j : Nat} (hj : j ∈ A) (f) : Tch A S T (U.wa j f) :=
  ⟨fun i hi => by
    have : i ≠ j := fun e => hi (e ▸ hj)
    rw [wa_a, if_neg this]; exact h.a i hi, h.s, h.w, h.l⟩
theorem Tch.ss {A S : List Nat} {T U : TS} (h : Tch A S T U) {j : Nat} (hj : j ∈ S) (v) : Tch A S T (U.ss j v) :=
  ⟨h.a, fun i hi => by
    have : i ≠ j := fun e => hi (e ▸ hj)
    rw [ss_s, if_neg this]; exact h.s i hi, h.w, h.l⟩

/-- visits as the twin lays them. -/
def VisA (G : Gv) (ind : Nat → Int32) (f11 f12 : Nat → Int32) (s : Nat) : Prop := f12 s = I (G.vs ind s) ∧ ∀ a, a < G.cnt s → f11 (8 * s + a) = I (G.vo ind s a)


theorem pt_laysVisits (W : G.WF) {a1 : Nat → Int32} (A : TG a1 G) (ha : T.a 1 = a1) {s : Nat} (hs : s < G.nS) (hA : Acy (G.cnt s) (fun a => T.a 5 (8 * s + a)))
    {Q : TS → Prop} (h : ∀ T', Tch [10, 11, 12] [231] T T' → VisA G (T.a 5) (T'.a 11) (T'.a 12) s →
      (∀ i, i ≠ s → T'.a 12 i = T.a 12 i) → (∀ i, (i < 8 * s ∨ 8 * s + 8 ≤ i) → T'.a 11 i = T.a 11 i) → (∃ n so, IsOrd (G.cnt s) (G.ins s) (fun a => T.a 5 (8 * s + a)) n so ∧ n ≤ 17) → Q T') : wp_X1_laysVisits (I s) T Q := by
  have hS := W.nS
  have hc := W.cnt8 hs
  unfold wp_X1_laysVisits
  refine tlp_for 8 (fun k => T.wa 10 (mixN k (fun _ => 0) (T.a 10))) (by rw [mixN_0]; exact wa_self T 10) ?_ ?_
  · intro k K hk hK
    refine brF (by (first | omega | ((try simp (disch := omega) only [L_le, le_L, L_lt, lt_L, eq_L, L_eq, I_le, I_lt, I_eq, I_ni, add_L, L_add, I_add, mul_L, L_mul, I_mul, sub_L, L_sub, I_sub, div_L, rem_L]); done) | ((try simp (disch := omega) only [L_le, le_L, L_lt, lt_L, eq_L, L_eq, I_le, I_lt, I_eq, I_ni, add_L, L_add, I_add, mul_L, L_mul, I_mul, sub_L, L_sub, I_sub, div_L, rem_L]); omega))) ⟨tix_I rfl (by show _ < 8; omega) (by decide), ?_⟩
    rintro _ rfl
    simp only [sa_wa, wa_wa, wa_a, if_true]
    (try simp (disch := omega) only [L_le, le_L, L_lt, lt_L, eq_L, L_eq, I_le, I_lt, I_eq, I_ni, add_L, L_add, I_add, mul_L, L_mul, I_mul, sub_L, L_sub, I_sub, div_L, rem_L])
    have := mixN_succ (n := k) (fun _ => (0 : Int32)) (T.a 10)
    rw [this]; exact hK
  intro K
  refine brT (by (first | omega | ((try simp (disch := omega) only [L_le, le_L, L_lt, lt_L, eq_L, L_eq, I_le, I_lt, I_eq, I_ni, add_L, L_add, I_add, mul_L, L_mul, I_mul, sub_L, L_sub, I_sub, div_L, rem_L]); done) | ((try simp (disch := omega) only [L_le, le_L, L_lt, lt_L, eq_L, L_eq, I_le, I_lt, I_eq, I_ni, add_L, L_add, I_add, mul_L, L_mul, I_mul, sub_L, L_sub, I_sub, div_L, rem_L]); omega))) ?_
  rintro _ rfl
  refine pt_attributes W A (by exact ha) hs ?_
  rintro m7 rfl
  -- the sets
  refine ⟨fun n fl T' => ∃ j so, Sts (G.cnt s) (G.ins s) (fun a => T.a 5 (8 * s + a)) j so ∧ Tch [10, 11, 12] [231] T T' ∧ T'.s 231 = I j ∧ (∀ x, x < 8 → T'.a 10 x = I (so x)) ∧ T'.a 11 = T.a 11 ∧ T'.a 12 = T.a 12 ∧
    ((fl = 0 ∧ ∀ a, a < G.cnt s → so a ≠ 0) ∨ (fl = 1 ∧ (∃ a, a < G.cnt s ∧ so a = 0) ∧ n = 1 + ordM (G.cnt s) (G.ins s) (fun a => T.a 5 (8 * s + a)) j so)), ?_, ?_⟩
  · refine ⟨1 + ordM (G.cnt s) (G.ins s) (fun a => T.a 5 (8 * s + a)) 0 (fun _ => 0), 0, fun _ => 0, Sts.zero, ((Tch.refl T).wa (by decide) _).ss (by decide) _, rfl, fun x hx => ?_, rfl, rfl, ?_⟩
    · simp only [ss_a, wa_a, if_true, mixN, hx]; rfl
    · by_cases h0 : G.cnt s = 0
      · left
        rw [h0]
        exact ⟨rfl, fun a ha => by omega⟩
      · right
        refine ⟨?_, ⟨0, by omega, rfl⟩, rfl⟩
        rw [if_neg]
        intro hh; have := (le_L 0 (by decide) (by omega)).1 hh; have e0 : (OfNat.ofNat 0 : Nat) = 0 := rfl; rw [e0] at this; omega
  rintro n fl T' ⟨j, so, hst, hch, hj, hso, h11, h12, hfl⟩
  have ha' : T'.a 1 = a1 := by rw [hch.a 1 (by decide)]; exact ha
  have h5 : T'.a 5 = T.a 5 := hch.a 5 (by decide)
  rcases hfl with ⟨rfl, hall⟩ | ⟨rfl, hex, rfl⟩
  · refine brT rfl ?_
    have hord : IsOrd (G.cnt s) (G.ins s) (fun a => T.a 5 (8 * s + a)) j so := ⟨hst, hall⟩
    have hj17 : j ≤ 17 := by have := hord.bound hA; omega
    have hv9 := visN_le hj17
    have evs : G.vs (T.a 5) s = visN j := by simp only [Gv.vs]; rw [ordOf_eq hord]
    have evo : ∀ a, G.vo (T.a 5) s a = visO j (so a) := by intro a; simp only [Gv.vo]; rw [ordOf_eq hord]
    rintro m12 rfl
    have hm : (if T'.s 231 = 0 then (1 : Int32) else (T'.s 231 + 1) / 2) = I (visN j) := by
      rw [hj]
      by_cases e : j = 0
      · subst e; rfl
      · rw [if_neg (by rw [I0 (by omega)]; exact e)]
        (try simp (disch := omega) only [L_le, le_L, L_lt, lt_L, eq_L, L_eq, I_le, I_lt, I_eq, I_ni, add_L, L_add, I_add, mul_L, L_mul, I_mul, sub_L, L_sub, I_sub, div_L, rem_L])
        simp [visN, e]
    rw [hm]
    refine ⟨tix_I rfl (by show _ < 8; omega) (by decide), ?_⟩
    rintro _ rfl
    refine tlp_cnt (G.cnt s) (fun m q T'' => q = I m ∧ T'' = (T'.sa 12 (ni (I s)) (I (visN j))).wa 11 (fun i => if 8 * s ≤ i ∧ i < 8 * s + m then I (visO j (so (i - 8 * s))) else T.a 11 i)) ⟨rfl, ?_⟩ ?_
    · rw [show (fun i => if 8 * s ≤ i ∧ i < 8 * s + 0 then I (visO j (so (i - 8 * s))) else T.a 11 i) = T.a 11 from funext fun i => by rw [if_neg (by omega)]]
      rw [← h11, sa_wa]
      exact (wa_self (T'.wa 12 _) 11).symm
    rintro m _ T'' K2 hm' ⟨rfl, rfl⟩ hK2
    refine pt_attributes W A (by exact ha') hs ?_
    by_cases e : m = G.cnt s
    · subst e
      refine brT (by (first | omega | ((try simp (disch := omega) only [L_le, le_L, L_lt, lt_L, eq_L, L_eq, I_le, I_lt, I_eq, I_ni, add_L, L_add, I_add, mul_L, L_mul, I_mul, sub_L, L_sub, I_sub, div_L, rem_L]); done) | ((try simp (disch := omega) only [L_le, le_L, L_lt, lt_L, eq_L, L_eq, I_le, I_lt, I_eq, I_ni, add_L, L_add, I_add, mul_L, L_mul, I_mul, sub_L, L_sub, I_sub, div_L, rem_L]); omega))) ?_
      refine h _ ((by rw [sa_wa]; exact (hch.wa (by decide) _).wa (by decide) _)) ⟨?_, ?_⟩ ?_ ?_ ⟨j, so, hord, hj17⟩
      · simp only [sa_wa, wa_a, show (12 : Nat) ≠ 11 by decide, if_false, if_true]
        rw [I_ni (by omega), updN_same, evs]
      · intro a ha2
        simp only [wa_a, if_true]
        rw [if_pos ⟨by omega, by omega⟩, show 8 * s + a - 8 * s = a by omega, evo]
      · intro i hi
        simp only [sa_wa, wa_a, show (12 : Nat) ≠ 11 by decide, if_false, if_true]
        rw [I_ni (by omega), updN_ne _ _ hi, h12]
      · intro i hi
        simp only [wa_a, if_true]
        rw [if_neg (by omega)]
    refine brF (by (first | omega | ((try simp (disch := omega) only [L_le, le_L, L_lt, lt_L, eq_L, L_eq, I_le, I_lt, I_eq, I_ni, add_L, L_add, I_add, mul_L, L_mul, I_mul, sub_L, L_sub, I_sub, div_L, rem_L]); done) | ((try simp (disch := omega) only [L_le, le_L, L_lt, lt_L, eq_L, L_eq, I_le, I_lt, I_eq, I_ni, add_L, L_add, I_add, mul_L, L_mul, I_mul, sub_L, L_sub, I_sub, div_L, rem_L]); omega))) ?_
    (try simp (disch := omega) only [L_le, le_L, L_lt, lt_L, eq_L, L_eq, I_le, I_lt, I_eq, I_ni, add_L, L_add, I_add, mul_L, L_mul, I_mul, sub_L, L_sub, I_sub, div_L, rem_L])
    refine ⟨tix_I rfl (by show _ < 8; omega) (by decide), tix_I rfl (by show _ < 8; omega) (by decide), tix_I rfl (by show _ < 64; omega) (by decide), ?_⟩
    rintro _ rfl
    refine hK2 _ _ (by omega) ⟨rfl, ?_⟩
    simp only [sa_wa, wa_wa, wa_a, show (12 : Nat) ≠ 11 by decide, show (10 : Nat) ≠ 11 by decide, show (10 : Nat) ≠ 12 by decide, if_false, if_true, updN_same]
    rw [hso m (by omega)]
    have hle := hst.le m
    have h2 : (so m + 1) / 2 ≤ visN j := by
      have h0 := hall m (by omega)
      unfold visN; split <;> omega
    have e2 : I (visN j) - (I (so m) + 1) / 2 + 1 = I (visO j (so m)) := by
      (try simp (disch := omega) only [L_le, le_L, L_lt, lt_L, eq_L, L_eq, I_le, I_lt, I_eq, I_ni, add_L, L_add, I_add, mul_L, L_mul, I_mul, sub_L, L_sub, I_sub, div_L, rem_L]); rfl
    rw [e2, I_ni (show s < 2147483648 by omega)]
    congr 1
    funext i
    simp only [updN]
    by_cases e3 : i = 8 * s + m
    · rw [if_pos e3, if_pos (by omega), e3, show 8 * s + m - 8 * s = m by omega]
    · by_cases e4 : 8 * s ≤ i ∧ i < 8 * s + m
      · rw [if_neg e3, if_pos e4, if_pos (by omega)]
      · rw [if_neg e3, if_neg e4, if_neg (by omega)]
  refine brF (by decide) ?_
  have hjb : j ≤ 17 := by have := hst.bound hA hex; omega
  rintro _ rfl
  rintro m23 rfl
  rw [hj]
  (try simp (disch := omega) only [L_le, le_L, L_lt, lt_L, eq_L, L_eq, I_le, I_lt, I_eq, I_ni, add_L, L_add, I_add, mul_L, L_mul, I_mul, sub_L, L_sub, I_sub, div_L, rem_L])
  simp only [ss_s, if_true]
  have hpar : (if (j + 1) % 2 = 1 then (1 : Int32) else 0) = (if decide ((j + 1) % 2 = 1) = true then 1 else 0) := by
    by_cases e : (j + 1) % 2 = 1 <;> simp [e]
  (try simp (disch := omega) only [L_le, le_L, L_lt, lt_L, eq_L, L_eq, I_le, I_lt, I_eq, I_ni, add_L, L_add, I_add, mul_L, L_mul, I_mul, sub_L, L_sub, I_sub, div_L, rem_L])
  rw [hpar]
  refine pt_fillsSet (T := T'.ss 231 (I (j + 1))) W A (by exact ha') hs (v := j + 1) rfl (by omega) (by omega) (so := so) hso (fun x => by have := hst.le x; omega) ?_
  intro f so' hfil hf
  replace hfil : Fil (G.cnt s) (G.ins s) (fun a => T.a 5 (8 * s + a)) (j + 1) so so' := by
    have : (T'.ss 231 (I (j + 1))).a 5 = T.a 5 := h5
    rw [this] at hfil; exact hfil
  have hst' : Sts (G.cnt s) (G.ins s) (fun a => T.a 5 (8 * s + a)) (j + 1) so' := Sts.succ hst hex hfil
  refine tlp_cnt (G.cnt s) (fun m q T'' => q.2 = I m ∧ T'' = (T'.ss 231 (I (j + 1))).wa 10 f ∧ ((q.1 = 0 ∧ ∀ a, a < m → so' a ≠ 0) ∨ (q.1 = 1 ∧ ∃ a, a < G.cnt s ∧ so' a = 0))) ⟨rfl, rfl, .inl ⟨rfl, fun a ha => by omega⟩⟩ ?_
  rintro m ⟨q, _⟩ T'' K2 hm ⟨rfl, rfl, hq⟩ hK2
  refine pt_attributes W A (by exact ha') hs ?_
  have hch' : Tch [10, 11, 12] [231] T ((T'.ss 231 (I (j + 1))).wa 10 f) := (hch.ss (by decide) _).wa (by decide) _
  by_cases e : m = G.cnt s
  · subst e
    refine brT (by (first | omega | ((try simp (disch := omega) only [L_le, le_L, L_lt, lt_L, eq_L, L_eq, I_le, I_lt, I_eq, I_ni, add_L, L_add, I_add, mul_L, L_mul, I_mul, sub_L, L_sub, I_sub, div_L, rem_L]); done) | ((try simp (disch := omega) only [L_le, le_L, L_lt, lt_L, eq_L, L_eq, I_le, I_lt, I_eq, I_ni, add_L, L_add, I_add, mul_L, L_mul, I_mul, sub_L, L_sub, I_sub, div_L, rem_L]); omega))) ?_
    rcases hq with ⟨hq, hall⟩ | ⟨hq, hex'⟩
    · exact ⟨0, by omega, j + 1, so', hst', hch', rfl, hf, h11, h12, .inl ⟨hq, hall⟩⟩
    · have := ordM_lt hA hex' hfil
      exact ⟨1 + ordM _ _ _ (j + 1) so', by omega, j + 1, so', hst', hch', rfl, hf, h11, h12, .inr ⟨hq, hex', rfl⟩⟩
  refine brF (by (first | omega | ((try simp (disch := omega) only [L_le, le_L, L_lt, lt_L, eq_L, L_eq, I_le, I_lt, I_eq, I_ni, add_L, L_add, I_add, mul_L, L_mul, I_mul, sub_L, L_sub, I_sub, div_L, rem_L]); done) | ((try simp (disch := omega) only [L_le, le_L, L_lt, lt_L, eq_L, L_eq, I_le, I_lt, I_eq, I_ni, add_L, L_add, I_add, mul_L, L_mul, I_mul, sub_L, L_sub, I_sub, div_L, rem_L]); omega))) ?_
  rcases hq with ⟨hq, hall⟩ | ⟨hq, hex'⟩
  · replace hq : q = 0 := hq
    subst hq
    refine brT rfl ⟨tix_I rfl (by show _ < 8; omega) (by decide), ?_⟩
    rintro m33 rfl
    have hle := hst'.le m
    have e1 : ((T'.ss 231 (I (j + 1))).wa 10 f).a 10 (ni (I m)) = I (so' m) := by
      simp only [wa_a, if_true]; rw [I_ni (by omega), hf m (by omega)]
    rw [e1]
    (try simp (disch := omega) only [L_le, le_L, L_lt, lt_L, eq_L, L_eq, I_le, I_lt, I_eq, I_ni, add_L, L_add, I_add, mul_L, L_mul, I_mul, sub_L, L_sub, I_sub, div_L, rem_L])
    refine hK2 _ _ (by omega) ⟨rfl, rfl, ?_⟩
    by_cases h0 : so' m = 0
    · exact .inr ⟨by rw [h0]; rfl, m, by omega, h0⟩
    · refine .inl ⟨?_, fun a ha => ?_⟩
      · show (if so' m = 0 then (1 : Int32) else 0) = 0
        rw [if_neg h0]
      · by_cases e : a = m
        · rw [e]; exact h0
        · exact hall a (by omega)
  · replace hq : q = 1 := hq
    subst hq
    refine brF (show ¬ (1 : Int32) = 0 by decide) ?_
    (try simp (disch := omega) only [L_le, le_L, L_lt, lt_L, eq_L, L_eq, I_le, I_lt, I_eq, I_ni, add_L, L_add, I_add, mul_L, L_mul, I_mul, sub_L, L_sub, I_sub, div_L, rem_L])
    exact hK2 _ _ (by omega) ⟨rfl, rfl, .inr ⟨rfl, hex'⟩⟩

theorem pt_laysAllVisits (W : G.WF) {a1 : Nat → Int32} (A : TG a1 G) (ha : T.a 1 = a1) (hI : G.IsInd (T.a 5))
    {Q : TS → Prop} (h : ∀ T', Tch [10, 11, 12] [231] T T' → (∀ s, s < G.nS → G.self (T.a 5) s = false → VisA G (T.a 5) (T'.a 11) (T'.a 12) s) → Q T') : wp_X1_laysAllVisits T Q := by
  have hS := W.nS
  unfold wp_X1_laysAllVisits
  refine tlp_cnt G.nS (fun n q T' => q = I n ∧ Tch [10, 11, 12] [231] T T' ∧ (∀ s, s < n → G.self (T.a 5) s = false → VisA G (T.a 5) (T'.a 11) (T'.a 12) s)) ⟨rfl, Tch.refl T, fun s hs => by omega⟩ ?_
  rintro n _ T' K hn ⟨rfl, hch, hv⟩ hK
  have ha' : T'.a 1 = a1 := by rw [hch.a 1 (by decide)]; exact ha
  have h5 : T'.a 5 = T.a 5 := hch.a 5 (by decide)
  refine ⟨tix_I (k := 0) rfl (by decide) (by decide), ?_⟩
  rw [show ni 0 = 0 from rfl, ha', A.nS]
  by_cases e : n = G.nS
  · subst e
    exact brT (by (first | omega | ((try simp (disch := omega) only [L_le, le_L, L_lt, lt_L, eq_L, L_eq, I_le, I_lt, I_eq, I_ni, add_L, L_add, I_add, mul_L, L_mul, I_mul, sub_L, L_sub, I_sub, div_L, rem_L]); done) | ((try simp (disch := omega) only [L_le, le_L, L_lt, lt_L, eq_L, L_eq, I_le, I_lt, I_eq, I_ni, add_L, L_add, I_add, mul_L, L_mul, I_mul, sub_L, L_sub, I_sub, div_L, rem_L]); omega))) (h T' hch hv)
  have hn' : n < G.nS := by omega
  refine brF (by (first | omega | ((try simp (disch := omega) only [L_le, le_L, L_lt, lt_L, eq_L, L_eq, I_le, I_lt, I_eq, I_ni, add_L, L_add, I_add, mul_L, L_mul, I_mul, sub_L, L_sub, I_sub, div_L, rem_L]); done) | ((try simp (disch := omega) only [L_le, le_L, L_lt, lt_L, eq_L, L_eq, I_le, I_lt, I_eq, I_ni, add_L, L_add, I_add, mul_L, L_mul, I_mul, sub_L, L_sub, I_sub, div_L, rem_L]); omega))) ?_
  refine pt_isSelf W A (by exact ha') hn' ?_
  rw [h5]
  cases hsf : G.self (T.a 5) n with
  | true =>
    refine brF (by decide) ?_
    (try simp (disch := omega) only [L_le, le_L, L_lt, lt_L, eq_L, L_eq, I_le, I_lt, I_eq, I_ni, add_L, L_add, I_add, mul_L, L_mul, I_mul, sub_L, L_sub, I_sub, div_L, rem_L])
    refine hK _ _ hn' ⟨rfl, hch, fun s hs hf => ?_⟩
    by_cases e : s = n
    · rw [e, hsf] at hf; exact absurd hf (by simp)
    · exact hv s (by omega) hf
  | false =>
    refine brT rfl ?_
    refine pt_laysVisits W A (by exact ha') hn' (by rw [h5]; exact hI.acy W hn' hsf) ?_
    intro T'' hch' hV h12 h11 _
    (try simp (disch := omega) only [L_le, le_L, L_lt, lt_L, eq_L, L_eq, I_le, I_lt, I_eq, I_ni, add_L, L_add, I_add, mul_L, L_mul, I_mul, sub_L, L_sub, I_sub, div_L, rem_L])
    refine hK _ _ hn' ⟨rfl, hch.trans hch', fun s hs hf => ?_⟩
    by_cases e : s = n
    · rw [e]; rw [h5] at hV; exact hV
    · have := hv s (by omega) hf
      have hc := W.cnt8 (show s < G.nS by omega)
      refine ⟨by rw [h12 s e]; exact this.1, fun a ha => ?_⟩
      rw [h11 _ (by omega)]; exact this.2 a ha
end
