/-! plain: tg6 tg7 tg8 tg9 -/
set_option maxRecDepth 100000
section
variable {G : Gv} {T : TS}

/-- the twin's visits are laid. -/
def VisT (G : Gv) (ind : Nat → Int32) (T : TS) : Prop := ∀ s, s < G.nS → G.self ind s = false → VisA G ind (T.a 11) (T.a 12) s

theorem ofBN_zero {P : Nat → Bool} : ∀ {n : Nat}, (∀ x, x < n → P x = false) → ofBN P n = 0
  | 0, _ => rfl
  | n + 1, h => by
    simp only [ofBN]
    rw [if_neg (by rw [h n (by omega)]; simp)]
    exact ofBN_zero (fun x hx => h x (by omega))

theorem ofBN_skip {P : Nat → Bool} {n : Nat} : ∀ m, n ≤ m → (∀ x, n ≤ x → x < m → P x = false) → ofBN P m = ofBN P n := by
  intro m
  induction m with
  | zero => intro h _; have : n = 0 := by omega
            rw [this]
  | succ m ih =>
    intro h hn
    by_cases e : n = m + 1
    · rw [e]
    · simp only [ofBN]
      rw [if_neg (by rw [hn m (by omega) (by omega)]; simp)]
      exact ih (by omega) (fun o h1 h2 => hn o h1 (by omega))

/-- the symbols of a production hang on themselves nowhere, if no occ does. -/
theorem Gv.noSelf (W : G.WF) {ind : Nat → Int32} {p : Nat} (hp : p < G.nP) (h : fself (clo (G.rI ind p)) = none) {k : Nat} (hk : k ≤ G.kn p) : G.self ind (G.sy p k) = false := by
  rw [Gv.self_false]
  intro a ha
  have h3 := W.kn p hp
  have hc := W.cnt8 (W.sy p k hp hk)
  have ea : (8 * k + a) / 8 = k ∧ (8 * k + a) % 8 = a := by omega
  have oa : G.oc p (8 * k + a) := ⟨by omega, by omega, by rw [ea.1, ea.2]; exact ha⟩
  cases hb : bt (ind (8 * G.sy p k + a)) a with
  | false => rfl
  | true =>
    have r1 := Gv.rI_bt (ind := ind) oa (k := a) (by omega) (by rw [ea.1, ea.2]; exact hb)
    rw [ea.1] at r1
    have := (clo_bt (G.rI ind p) oa.1).2 ⟨_, r1, Rch.refl _⟩
    have h' := fstN_none.1 h (8 * k + a) oa.1
    simp only [this] at h'
    exact absurd h' (by simp)

theorem I3lt {a b : Nat} (ha : a < 100) (hb : b < 100) : I a ≤ I b ↔ a ≤ b := I_le (by omega) (by omega)

theorem Gv.rV_eq {ind : Nat → Int32} {p : Nat} {o : Nat} : G.rV ind p o = G.rI ind p o ||| ofB (fun x => decide (G.oc p o ∧ x / 8 = o / 8 ∧ x % 8 < G.cnt (G.sy p (o / 8)) ∧ G.hv ind (G.sy p (o / 8)) (o % 8) (x % 8))) := rfl

theorem or_zero (x : Int32) : x ||| 0 = x := by
  apply bt_ext; intro k _; rw [bt_or, bt_zero]; simp

theorem pt_addsVisits (W : G.WF) {a1 : Nat → Int32} (A : TG a1 G) (ha : T.a 1 = a1) {ind : Nat → Int32} (h5 : T.a 5 = ind) (hI : G.IsInd ind) {p : Nat} (hp : p < G.nP)
    (hns : ∀ k, k ≤ G.kn p → G.self ind (G.sy p k) = false) {r : Nat → Int32} (hr : ∀ o, o < 32 → T.a 6 o = G.rI ind p o)
    {Q : TS → Prop} (h : ∀ T', Tch [6, 10, 11, 12] [231] T T' → (∀ o, o < 32 → T'.a 6 o = G.rV ind p o) → VisT G ind T' → Q T') : wp_X1_addsVisits (I p) T Q := by
  have hP := W.nP
  have hS := W.nS
  have hK3 := W.kn p hp
  unfold wp_X1_addsVisits
  refine pt_laysAllVisits W A (by exact ha) (by rw [h5]; exact hI) ?_
  intro T1 hc1 hv1
  rw [h5] at hv1
  have h61 : T1.a 6 = T.a 6 := hc1.a 6 (by decide)
  have hc1' : Tch [6, 10, 11, 12] [231] T T1 := hc1.mono (by decide) (by decide)
  have ha1 : T1.a 1 = a1 := by rw [hc1.a 1 (by decide)]; exact ha
  -- what comes
  let F : Nat → Int32 := fun o => if G.oc p o then G.rV ind p o else T.a 6 o
  have hFn : ∀ o, ¬ G.oc p o → F o = T.a 6 o := fun o ho => if_neg ho
  refine tlp_for (G.kn p + 1) (fun k => T1.wa 6 (mixN (8 * k) F (T.a 6))) (by rw [mixN_0, ← h61]; exact wa_self T1 6) ?_ ?_
  · intro k K hk hK
    (try simp (disch := omega) only [L_le, le_L, L_lt, lt_L, eq_L, L_eq, I_le, I_lt, I_eq, I_ni, add_L, L_add, I_add, mul_L, L_mul, I_mul, sub_L, L_sub, I_sub, div_L, rem_L])
    refine ⟨tix_I rfl (by show _ < 3816; omega) (by decide), ?_⟩
    simp only [wa_a, show (1 : Nat) ≠ 6 by decide, if_false]
    rw [ha1, A.kn p hp]
    refine brF (by (first | omega | ((try simp (disch := omega) only [L_le, le_L, L_lt, lt_L, eq_L, L_eq, I_le, I_lt, I_eq, I_ni, add_L, L_add, I_add, mul_L, L_mul, I_mul, sub_L, L_sub, I_sub, div_L, rem_L]); done) | ((try simp (disch := omega) only [L_le, le_L, L_lt, lt_L, eq_L, L_eq, I_le, I_lt, I_eq, I_ni, add_L, L_add, I_add, mul_L, L_mul, I_mul, sub_L, L_sub, I_sub, div_L, rem_L]); omega))) ?_
    refine pt_symbolAt (.inl rfl) W A (by exact ha1) hp (show k ≤ G.kn p by omega) ?_
    have hs := W.sy p k hp (by omega)
    have hc := W.cnt8 hs
    have hsf := hns k (by omega)
    have hVB := hI.vb W hs hsf
    have hVA := hv1 _ hs hsf
    refine tlp_for (G.cnt (G.sy p k)) (fun n => T1.wa 6 (mixN (8 * k + n) F (T.a 6))) rfl ?_ ?_
    · intro n K2 hn hK2
      refine pt_attributes W A (by exact ha1) hs ?_
      refine brF (by (first | omega | ((try simp (disch := omega) only [L_le, le_L, L_lt, lt_L, eq_L, L_eq, I_le, I_lt, I_eq, I_ni, add_L, L_add, I_add, mul_L, L_mul, I_mul, sub_L, L_sub, I_sub, div_L, rem_L]); done) | ((try simp (disch := omega) only [L_le, le_L, L_lt, lt_L, eq_L, L_eq, I_le, I_lt, I_eq, I_ni, add_L, L_add, I_add, mul_L, L_mul, I_mul, sub_L, L_sub, I_sub, div_L, rem_L]); omega))) ?_
      have eo : (8 * k + n) / 8 = k ∧ (8 * k + n) % 8 = n := by omega
      have hoc : G.oc p (8 * k + n) := ⟨by omega, by omega, by rw [eo.1, eo.2]; exact hn⟩
      let P : Nat → Bool := fun x => decide (G.oc p (8 * k + n) ∧ x / 8 = (8 * k + n) / 8 ∧ x % 8 < G.cnt (G.sy p ((8 * k + n) / 8)) ∧ G.hv ind (G.sy p ((8 * k + n) / 8)) ((8 * k + n) % 8) (x % 8))
      have hPf : ∀ x, ¬ (x / 8 = k ∧ x % 8 < G.cnt (G.sy p k)) → P x = false := by
        intro x hx
        refine decide_eq_false (fun hh => hx ?_)
        rw [eo.1] at hh; exact ⟨hh.2.1, hh.2.2.1⟩
      refine tlp_for (G.cnt (G.sy p k)) (fun m => T1.wa 6 (updN (mixN (8 * k + n) F (T.a 6)) (8 * k + n) (G.rI ind p (8 * k + n) ||| ofBN P (8 * k + m)))) ?_ ?_ ?_
      · rw [ofBN_zero (fun x hx => hPf x (by omega)), or_zero, ← hr _ (by omega)]
        congr 1
        funext i
        simp only [updN]
        split
        · next e => rw [e, mixN_at]
        · rfl
      · intro m K3 hm hK3
        refine pt_attributes W A (by exact ha1) hs ?_
        refine brF (by (first | omega | ((try simp (disch := omega) only [L_le, le_L, L_lt, lt_L, eq_L, L_eq, I_le, I_lt, I_eq, I_ni, add_L, L_add, I_add, mul_L, L_mul, I_mul, sub_L, L_sub, I_sub, div_L, rem_L]); done) | ((try simp (disch := omega) only [L_le, le_L, L_lt, lt_L, eq_L, L_eq, I_le, I_lt, I_eq, I_ni, add_L, L_add, I_add, mul_L, L_mul, I_mul, sub_L, L_sub, I_sub, div_L, rem_L]); omega))) ?_
        (try simp (disch := omega) only [L_le, le_L, L_lt, lt_L, eq_L, L_eq, I_le, I_lt, I_eq, I_ni, add_L, L_add, I_add, mul_L, L_mul, I_mul, sub_L, L_sub, I_sub, div_L, rem_L])
        simp only [wa_a, show (11 : Nat) ≠ 6 by decide, show (1 : Nat) ≠ 6 by decide, if_false]
        rw [hVA.2 n hn, hVA.2 m hm, ha1]
        have b1 := hVB.vo9 n hn
        have b2 := hVB.vo9 m hm
        have b3 := hVB.vs9
        have hi := W.ins _ hs
        refine ⟨tix_I rfl (by show _ < 64; omega) (by decide), tix_I rfl (by show _ < 64; omega) (by decide), ?_⟩
        rintro m18 rfl
        refine ⟨tix_I rfl (by show _ < 64; omega) (by decide), tix_I rfl (by show _ < 64; omega) (by decide), ?_⟩
        -- behind
        refine ⟨fun x T'' => T'' = T1.wa 6 (updN (mixN (8 * k + n) F (T.a 6)) (8 * k + n) (G.rI ind p (8 * k + n) ||| ofBN P (8 * k + m))) ∧ (x = 0 ∨ x = 1) ∧ (x = 1 ↔ (G.vo ind (G.sy p k) n = G.vo ind (G.sy p k) m ∧ G.ins (G.sy p k) ≤ n ∧ m < G.ins (G.sy p k))), ?_, ?_⟩
        · by_cases e1 : G.vo ind (G.sy p k) n = G.vo ind (G.sy p k) m
          · refine brT (by rw [e1]) ⟨by (try simp (disch := omega) only [L_le, le_L, L_lt, lt_L, eq_L, L_eq, I_le, I_lt, I_eq, I_ni, add_L, L_add, I_add, mul_L, L_mul, I_mul, sub_L, L_sub, I_sub, div_L, rem_L]); exact tix_I rfl (by show _ < 3816; omega) (by decide), ?_⟩
            rw [A.ins _ hs]
            by_cases e2 : n < G.ins (G.sy p k)
            · refine brT (by (first | omega | ((try simp (disch := omega) only [L_le, le_L, L_lt, lt_L, eq_L, L_eq, I_le, I_lt, I_eq, I_ni, add_L, L_add, I_add, mul_L, L_mul, I_mul, sub_L, L_sub, I_sub, div_L, rem_L]); done) | ((try simp (disch := omega) only [L_le, le_L, L_lt, lt_L, eq_L, L_eq, I_le, I_lt, I_eq, I_ni, add_L, L_add, I_add, mul_L, L_mul, I_mul, sub_L, L_sub, I_sub, div_L, rem_L]); omega))) ⟨rfl, .inl rfl, ?_⟩
              constructor
              · intro hh; exact absurd hh (by decide)
              · intro hh; omega
            · refine brF (by (first | omega | ((try simp (disch := omega) only [L_le, le_L, L_lt, lt_L, eq_L, L_eq, I_le, I_lt, I_eq, I_ni, add_L, L_add, I_add, mul_L, L_mul, I_mul, sub_L, L_sub, I_sub, div_L, rem_L]); done) | ((try simp (disch := omega) only [L_le, le_L, L_lt, lt_L, eq_L, L_eq, I_le, I_lt, I_eq, I_ni, add_L, L_add, I_add, mul_L, L_mul, I_mul, sub_L, L_sub, I_sub, div_L, rem_L]); omega))) ⟨by (try simp (disch := omega) only [L_le, le_L, L_lt, lt_L, eq_L, L_eq, I_le, I_lt, I_eq, I_ni, add_L, L_add, I_add, mul_L, L_mul, I_mul, sub_L, L_sub, I_sub, div_L, rem_L]); exact tix_I rfl (by show _ < 3816; omega) (by decide), ?_⟩
              rintro m24 rfl
              refine ⟨rfl, ?_, ?_⟩
              · split
                · exact .inl rfl
                · exact .inr rfl
              · by_cases e3 : G.ins (G.sy p k) ≤ m
                · rw [if_pos ((I_le (by omega) (by omega)).2 e3)]
                  constructor
                  · intro hh; exact absurd hh (by decide)
                  · intro hh; omega
                · rw [if_neg (fun hh => e3 ((I_le (by omega) (by omega)).1 hh))]
                  exact ⟨fun _ => ⟨e1, by omega, by omega⟩, fun _ => rfl⟩
          · refine brF (fun hh => e1 ((I_eq (by omega) (by omega)).1 hh)) ⟨rfl, .inl rfl, ?_⟩
            constructor
            · intro hh; exact absurd hh (by decide)
            · intro hh; exact absurd hh.1 e1
        · rintro x T'' ⟨rfl, hx01, hx⟩
          have hPx : P (8 * k + m) = true ↔ ¬ ((if I (G.vo ind (G.sy p k) n) ≤ I (G.vo ind (G.sy p k) m) then (0 : Int32) else 1) = 0 ∧ x = 0) := by
            show decide _ = true ↔ _
            rw [decide_eq_true_eq, eo.1, eo.2, show (8 * k + m) / 8 = k by omega, show (8 * k + m) % 8 = m by omega]
            unfold Gv.hv
            by_cases e1 : G.vo ind (G.sy p k) n ≤ G.vo ind (G.sy p k) m
            · rw [if_pos ((I_le (by omega) (by omega)).2 e1)]
              rcases hx01 with rfl | rfl
              · simp only [and_self, not_true_eq_false, iff_false]
                rintro ⟨_, _, _, h1 | h1⟩
                · omega
                · exact absurd (hx.2 ⟨h1.1.symm, h1.2.1, h1.2.2⟩) (by decide)
              · have := hx.1 rfl
                simp only [show ¬ (1 : Int32) = 0 by decide, and_false, not_false_eq_true, iff_true]
                exact ⟨hoc, trivial, hm, .inr ⟨this.1.symm, this.2.1, this.2.2⟩⟩
            · rw [if_neg (fun hh => e1 ((I_le (by omega) (by omega)).1 hh))]
              simp only [show ¬ (1 : Int32) = 0 by decide, false_and, not_false_eq_true, iff_true]
              exact ⟨hoc, trivial, hm, .inl (by omega)⟩
          by_cases hcx : (if I (G.vo ind (G.sy p k) n) ≤ I (G.vo ind (G.sy p k) m) then (0 : Int32) else 1) = 0 ∧ x = 0
          · refine brT hcx ?_
            have e : ofBN P (8 * k + (m + 1)) = ofBN P (8 * k + m) := by
              show (if P (8 * k + m) = true then ofBN P (8 * k + m) ||| jshl 1 (I (8 * k + m)) else ofBN P (8 * k + m)) = _
              rw [if_neg (fun hh => hPx.1 hh hcx)]
            rw [e] at hK3
            exact hK3
          · refine brF hcx ⟨tix_I rfl (by show _ < 32; omega) (by decide), tix_I rfl (by show _ < 32; omega) (by decide), ?_⟩
            rintro _ rfl
            have e : ofBN P (8 * k + (m + 1)) = ofBN P (8 * k + m) ||| jshl 1 (I (8 * k + m)) := by
              show (if P (8 * k + m) = true then ofBN P (8 * k + m) ||| jshl 1 (I (8 * k + m)) else ofBN P (8 * k + m)) = _
              rw [if_pos (hPx.2 hcx)]
            rw [e] at hK3
            simp only [sa_wa, wa_wa, wa_a, if_true, updN_same]
            have e2 : updN (updN (mixN (8 * k + n) F (T.a 6)) (8 * k + n) (G.rI ind p (8 * k + n) ||| ofBN P (8 * k + m))) (8 * k + n) (G.rI ind p (8 * k + n) ||| ofBN P (8 * k + m) ||| jshl 1 (I (8 * k + m))) = updN (mixN (8 * k + n) F (T.a 6)) (8 * k + n) (G.rI ind p (8 * k + n) ||| (ofBN P (8 * k + m) ||| jshl 1 (I (8 * k + m)))) := by
              funext i
              simp only [updN]
              split
              · apply bt_ext; intro j _; simp only [bt_or, Bool.or_assoc]
              · rfl
            rw [e2]; exact hK3
      · intro K3
        refine pt_attributes W A (by exact ha1) hs ?_
        refine brT (by (first | omega | ((try simp (disch := omega) only [L_le, le_L, L_lt, lt_L, eq_L, L_eq, I_le, I_lt, I_eq, I_ni, add_L, L_add, I_add, mul_L, L_mul, I_mul, sub_L, L_sub, I_sub, div_L, rem_L]); done) | ((try simp (disch := omega) only [L_le, le_L, L_lt, lt_L, eq_L, L_eq, I_le, I_lt, I_eq, I_ni, add_L, L_add, I_add, mul_L, L_mul, I_mul, sub_L, L_sub, I_sub, div_L, rem_L]); omega))) ?_
        (try simp (disch := omega) only [L_le, le_L, L_lt, lt_L, eq_L, L_eq, I_le, I_lt, I_eq, I_ni, add_L, L_add, I_add, mul_L, L_mul, I_mul, sub_L, L_sub, I_sub, div_L, rem_L])
        have e : ofBN P (8 * k + G.cnt (G.sy p k)) = ofB P := (ofBN_skip 32 (by omega) (fun x h1 h2 => hPf x (by omega))).symm
        rw [e]
        have e2 : G.rI ind p (8 * k + n) ||| ofB P = F (8 * k + n) := by
          show _ = if G.oc p (8 * k + n) then _ else _
          rw [if_pos hoc]; rfl
        rw [e2, mixN_succ]; exact hK2
    · intro K2
      refine pt_attributes W A (by exact ha1) hs ?_
      refine brT (by (first | omega | ((try simp (disch := omega) only [L_le, le_L, L_lt, lt_L, eq_L, L_eq, I_le, I_lt, I_eq, I_ni, add_L, L_add, I_add, mul_L, L_mul, I_mul, sub_L, L_sub, I_sub, div_L, rem_L]); done) | ((try simp (disch := omega) only [L_le, le_L, L_lt, lt_L, eq_L, L_eq, I_le, I_lt, I_eq, I_ni, add_L, L_add, I_add, mul_L, L_mul, I_mul, sub_L, L_sub, I_sub, div_L, rem_L]); omega))) ?_
      (try simp (disch := omega) only [L_le, le_L, L_lt, lt_L, eq_L, L_eq, I_le, I_lt, I_eq, I_ni, add_L, L_add, I_add, mul_L, L_mul, I_mul, sub_L, L_sub, I_sub, div_L, rem_L])
      rw [mixN_skip (n := 8 * k + G.cnt (G.sy p k)) (m := 8 * (k + 1)) (by omega) (fun o h1 h2 => hFn o (fun ho => by
        have := ho.2.2; rw [show o / 8 = k by omega] at this; omega))]
      exact hK
  · intro K
    (try simp (disch := omega) only [L_le, le_L, L_lt, lt_L, eq_L, L_eq, I_le, I_lt, I_eq, I_ni, add_L, L_add, I_add, mul_L, L_mul, I_mul, sub_L, L_sub, I_sub, div_L, rem_L])
    refine ⟨tix_I rfl (by show _ < 3816; omega) (by decide), ?_⟩
    simp only [wa_a, show (1 : Nat) ≠ 6 by decide, if_false]
    rw [ha1, A.kn p hp]
    refine brT (by (first | omega | ((try simp (disch := omega) only [L_le, le_L, L_lt, lt_L, eq_L, L_eq, I_le, I_lt, I_eq, I_ni, add_L, L_add, I_add, mul_L, L_mul, I_mul, sub_L, L_sub, I_sub, div_L, rem_L]); done) | ((try simp (disch := omega) only [L_le, le_L, L_lt, lt_L, eq_L, L_eq, I_le, I_lt, I_eq, I_ni, add_L, L_add, I_add, mul_L, L_mul, I_mul, sub_L, L_sub, I_sub, div_L, rem_L]); omega))) ?_
    rw [mixN_all (fun o ho => hFn o (fun hc => by have := hc.2.1; omega))]
    refine h _ (hc1'.wa (by decide) _) (fun o ho => ?_) hv1
    simp only [wa_a, if_true]
    show (if G.oc p o then _ else _) = _
    by_cases hoc : G.oc p o
    · rw [if_pos hoc]
    · rw [if_neg hoc, hr o ho, Gv.rV_eq]
      have : ofB (fun x => decide (G.oc p o ∧ x / 8 = o / 8 ∧ x % 8 < G.cnt (G.sy p (o / 8)) ∧ G.hv ind (G.sy p (o / 8)) (o % 8) (x % 8))) = 0 :=
        ofBN_zero (fun x _ => decide_eq_false (fun hh => hoc hh.1))
      rw [this, or_zero]
end
section
variable {G : Gv} {T : TS}

theorem fself_congr {r r' : Nat → Int32} (h : ∀ o, o < 32 → r o = r' o) : fself r = fself r' := by
  unfold fself
  cases h1 : fstN (fun o => bt (r' o) o) 32 with
  | none =>
    rw [fstN_none] at h1 ⊢
    intro k hk; rw [h k hk]; exact h1 k hk
  | some k =>
    rw [fstN_some] at h1 ⊢
    refine ⟨h1.1, by rw [h k h1.1]; exact h1.2.1, fun j hj => by rw [h j (by omega)]; exact h1.2.2 j hj⟩

theorem pt_laysOrdered (W : G.WF) {a1 : Nat → Int32} (A : TG a1 G) (ha : T.a 1 = a1) {ind : Nat → Int32} (h5 : T.a 5 = ind) (hI : G.IsInd ind) {p : Nat} (hp : p < G.nP)
    (hns : ∀ k, k ≤ G.kn p → G.self ind (G.sy p k) = false)
    {Q : TS → Prop} (h : ∀ T', Tch [6, 10, 11, 12] [231] T T' → (∀ o, o < 32 → T'.a 6 o = clo (G.rV ind p) o) → Q T') : wp_X1_laysOrdered (I p) T Q := by
  subst h5
  unfold wp_X1_laysOrdered
  refine pt_laysRules W A (by exact ha) hp ?_
  refine pt_addsInduced W A (by exact ha) hp ?_
  rw [wa_wa]
  have e5 : ∀ f, (T.wa 6 f).a 5 = T.a 5 := fun f => rfl
  have e6 : ∀ f, (T.wa 6 f).a 6 = f := fun f => rfl
  rw [e5, e6]
  generalize hF : G.addI (T.a 5) p (mixN 32 (G.ask p) (T.a 6)) = F
  have hF' : ∀ o, o < 32 → F o = G.rI (T.a 5) p o := by
    intro o ho
    rw [← hF]
    exact addI_mix (fun y hy => by simp [mixN, hy]) ho
  refine pt_addsVisits (T := T.wa 6 F) (r := T.a 6) W A ha rfl hI hp hns hF' ?_
  intro T' hch hr hv
  refine pt_closes ?_
  refine h _ (((((Tch.refl T).wa (by decide) _).trans hch)).wa (by decide) _) (fun o ho => ?_)
  rw [wa_a, if_pos rfl]
  exact clo_congr hr ho

theorem pt_block (W : G.WF) {a1 : Nat → Int32} (A : TG a1 G) (ha : T.a 1 = a1) {ind : Nat → Int32} (h5 : T.a 5 = ind) (hI : G.IsInd ind)
    {Q : Int32 → TS → Prop} (h : ∀ T', Tch [6, 10, 11, 12] [231] T T' → Q (oI (G.blkP ind)) T') : wp_X1_block T Q := by
  have hP := W.nP
  unfold wp_X1_block
  refine tlp_cnt G.nP (fun n q T' => q = I n ∧ Tch [6, 10, 11, 12] [231] T T' ∧ fstN (fun p => (fself (clo (G.rI ind p))).isSome || (fself (clo (G.rV ind p))).isSome) n = none) ⟨rfl, Tch.refl T, rfl⟩ ?_
  rintro n _ T' K hn ⟨rfl, hch, hf⟩ hK
  have ha' : T'.a 1 = a1 := by rw [hch.a 1 (by decide)]; exact ha
  have h5' : T'.a 5 = ind := by rw [hch.a 5 (by decide)]; exact h5
  refine ⟨tix_I (k := 1) rfl (by decide) (by decide), ?_⟩
  rw [show ni 1 = 1 from rfl, ha', A.nP]
  by_cases e : n = G.nP
  · subst e
    refine brT (by (first | omega | ((try simp (disch := omega) only [L_le, le_L, L_lt, lt_L, eq_L, L_eq, I_le, I_lt, I_eq, I_ni, add_L, L_add, I_add, mul_L, L_mul, I_mul, sub_L, L_sub, I_sub, div_L, rem_L]); done) | ((try simp (disch := omega) only [L_le, le_L, L_lt, lt_L, eq_L, L_eq, I_le, I_lt, I_eq, I_ni, add_L, L_add, I_add, mul_L, L_mul, I_mul, sub_L, L_sub, I_sub, div_L, rem_L]); omega))) ?_
    have := h T' hch
    rw [Gv.blkP, hf] at this; exact this
  have hn' : n < G.nP := by omega
  have hres : ((fself (clo (G.rI ind n))).isSome || (fself (clo (G.rV ind n))).isSome) = true → oI (G.blkP ind) = I n := by
    intro hh
    rw [Gv.blkP, fstN_some.2 ⟨hn', hh, fstN_none.1 hf⟩]; rfl
  refine brF (by (first | omega | ((try simp (disch := omega) only [L_le, le_L, L_lt, lt_L, eq_L, L_eq, I_le, I_lt, I_eq, I_ni, add_L, L_add, I_add, mul_L, L_mul, I_mul, sub_L, L_sub, I_sub, div_L, rem_L]); done) | ((try simp (disch := omega) only [L_le, le_L, L_lt, lt_L, eq_L, L_eq, I_le, I_lt, I_eq, I_ni, add_L, L_add, I_add, mul_L, L_mul, I_mul, sub_L, L_sub, I_sub, div_L, rem_L]); omega))) ?_
  refine pt_laysClosed W A (by exact ha') hn' ?_
  intro r hr
  rw [h5'] at hr
  refine pt_firstSelf ?_
  simp only [wa_a, if_true]
  rw [fself_congr hr]
  cases h1 : fself (clo (G.rI ind n)) with
  | some o =>
    have ho : o < 32 := (fstN_some.1 h1).1
    refine brF (I_neg1_ne (by omega)) ?_
    have := h (T'.wa 6 r) (hch.wa (by decide) _)
    rw [hres (by rw [h1]; rfl)] at this; exact this
  | none =>
    refine brT rfl ?_
    refine pt_laysOrdered W A (by exact ha') (by exact h5') hI hn' (fun k hk => Gv.noSelf W hn' h1 hk) ?_
    intro T'' hch' hr'
    have hch'' : Tch [6, 10, 11, 12] [231] T T'' := (hch.wa (by decide) r).trans hch'
    refine pt_firstSelf ?_
    rw [fself_congr hr']
    cases h2 : fself (clo (G.rV ind n)) with
    | some o =>
      have ho : o < 32 := (fstN_some.1 h2).1
      refine brF (I_neg1_ne (by omega)) ?_
      have := h T'' hch''
      rw [hres (by rw [h1, h2]; rfl)] at this; exact this
    | none =>
      refine brT rfl ?_
      (try simp (disch := omega) only [L_le, le_L, L_lt, lt_L, eq_L, L_eq, I_le, I_lt, I_eq, I_ni, add_L, L_add, I_add, mul_L, L_mul, I_mul, sub_L, L_sub, I_sub, div_L, rem_L])
      refine hK _ _ hn' ⟨rfl, hch'', fstN_none.2 (fun j hj => ?_)⟩
      by_cases e : j = n
      · rw [e, h1, h2]; rfl
      · exact fstN_none.1 hf j (by omega)

/-- a loop that gathers bits from one number on. -/
theorem pt_insOf (W : G.WF) {a1 : Nat → Int32} (A : TG a1 G) (ha : T.a 1 = a1) {ind : Nat → Int32} {p at_ v : Nat} (hp : p < G.nP) (hat : at_ ≤ G.kn p) (hv : v < 1000)
    (hB : G.VB ind (G.sy p at_)) (hV : VisA G ind (T.a 11) (T.a 12) (G.sy p at_)) {Q : Int32 → TS → Prop} (h : Q (G.inV ind p at_ v) T) : wp_X1_insOf (I at_) (I (G.sy p at_)) (I v) T Q := by
  have hs := W.sy p at_ hp hat
  have hS := W.nS
  have hK3 := W.kn p hp
  have hi := W.ins _ hs
  have hic := W.ic _ hs
  let P : Nat → Bool := fun x => decide (x / 8 = at_ ∧ x % 8 < G.ins (G.sy p at_) ∧ G.vo ind (G.sy p at_) (x % 8) = v)
  have hPf : ∀ x, ¬ (x / 8 = at_ ∧ x % 8 < G.ins (G.sy p at_)) → P x = false := fun x hx => decide_eq_false (fun hh => hx ⟨hh.1, hh.2.1⟩)
  unfold wp_X1_insOf
  refine tlp_cnt (G.ins (G.sy p at_)) (fun n q T' => q = (ofBN P (8 * at_ + n), I n) ∧ T' = T) ⟨by rw [ofBN_zero (fun x hx => hPf x (by omega))]; rfl, rfl⟩ ?_
  rintro n _ T' K hn ⟨rfl, rfl⟩ hK
  (try simp (disch := omega) only [L_le, le_L, L_lt, lt_L, eq_L, L_eq, I_le, I_lt, I_eq, I_ni, add_L, L_add, I_add, mul_L, L_mul, I_mul, sub_L, L_sub, I_sub, div_L, rem_L])
  refine ⟨tix_I rfl (by show _ < 3816; omega) (by decide), ?_⟩
  rw [ha, A.ins _ hs]
  by_cases e : n = G.ins (G.sy p at_)
  · subst e
    refine brT (by (first | omega | ((try simp (disch := omega) only [L_le, le_L, L_lt, lt_L, eq_L, L_eq, I_le, I_lt, I_eq, I_ni, add_L, L_add, I_add, mul_L, L_mul, I_mul, sub_L, L_sub, I_sub, div_L, rem_L]); done) | ((try simp (disch := omega) only [L_le, le_L, L_lt, lt_L, eq_L, L_eq, I_le, I_lt, I_eq, I_ni, add_L, L_add, I_add, mul_L, L_mul, I_mul, sub_L, L_sub, I_sub, div_L, rem_L]); omega))) ?_
    rw [show ofBN P (8 * at_ + G.ins (G.sy p at_)) = ofB P from (ofBN_skip 32 (by omega) (fun x h1 h2 => hPf x (by omega))).symm]
    exact h
  refine brF (by (first | omega | ((try simp (disch := omega) only [L_le, le_L, L_lt, lt_L, eq_L, L_eq, I_le, I_lt, I_eq, I_ni, add_L, L_add, I_add, mul_L, L_mul, I_mul, sub_L, L_sub, I_sub, div_L, rem_L]); done) | ((try simp (disch := omega) only [L_le, le_L, L_lt, lt_L, eq_L, L_eq, I_le, I_lt, I_eq, I_ni, add_L, L_add, I_add, mul_L, L_mul, I_mul, sub_L, L_sub, I_sub, div_L, rem_L]); omega))) ⟨tix_I rfl (by show _ < 64; omega) (by decide), ?_⟩
  rintro m4 rfl
  rw [hV.2 n (by omega)]
  have b1 := hB.vo9 n (by omega)
  have b2 := hB.vs9
  refine hK _ _ (by omega) ⟨?_, rfl⟩
  refine Prod.ext ?_ rfl
  show _ = if P (8 * at_ + n) then ofBN P (8 * at_ + n) ||| jshl 1 (I (8 * at_ + n)) else ofBN P (8 * at_ + n)
  by_cases hv' : G.vo ind (G.sy p at_) n = v
  · have hp1 : P (8 * at_ + n) = true := decide_eq_true ⟨by omega, by omega, by rw [show (8 * at_ + n) % 8 = n by omega]; exact hv'⟩
    rw [if_pos hp1, if_pos (by rw [hv'])]
  · have hp1 : ¬ P (8 * at_ + n) = true := by
      intro hh; have := of_decide_eq_true hh
      rw [show (8 * at_ + n) % 8 = n by omega] at this; exact hv' this.2.2
    rw [if_neg hp1, if_neg (fun hh => hv' ((I_eq (by omega) (by omega)).1 hh)), or_zero]

theorem pt_outsOf (W : G.WF) {a1 : Nat → Int32} (A : TG a1 G) (ha : T.a 1 = a1) {ind : Nat → Int32} {p at_ v : Nat} (hp : p < G.nP) (hat : at_ ≤ G.kn p) (hv : v < 1000)
    (hB : G.VB ind (G.sy p at_)) (hV : VisA G ind (T.a 11) (T.a 12) (G.sy p at_)) {Q : Int32 → TS → Prop} (h : Q (G.ouV ind p at_ v) T) : wp_X1_outsOf (I at_) (I (G.sy p at_)) (I v) T Q := by
  have hs := W.sy p at_ hp hat
  have hS := W.nS
  have hK3 := W.kn p hp
  have hi := W.ins _ hs
  have hic := W.ic _ hs
  have hc8 := W.cnt8 hs
  let P : Nat → Bool := fun x => decide (x / 8 = at_ ∧ G.ins (G.sy p at_) ≤ x % 8 ∧ x % 8 < G.cnt (G.sy p at_) ∧ G.vo ind (G.sy p at_) (x % 8) = v)
  have hPf : ∀ x, ¬ (x / 8 = at_ ∧ G.ins (G.sy p at_) ≤ x % 8 ∧ x % 8 < G.cnt (G.sy p at_)) → P x = false := fun x hx => decide_eq_false (fun hh => hx ⟨hh.1, hh.2.1, hh.2.2.1⟩)
  unfold wp_X1_outsOf
  (try simp (disch := omega) only [L_le, le_L, L_lt, lt_L, eq_L, L_eq, I_le, I_lt, I_eq, I_ni, add_L, L_add, I_add, mul_L, L_mul, I_mul, sub_L, L_sub, I_sub, div_L, rem_L])
  refine ⟨tix_I rfl (by show _ < 3816; omega) (by decide), ?_⟩
  rw [ha, A.ins _ hs]
  refine tlp_cnt (G.cnt (G.sy p at_) - G.ins (G.sy p at_)) (fun n q T' => q = (ofBN P (8 * at_ + (G.ins (G.sy p at_) + n)), I (G.ins (G.sy p at_) + n)) ∧ T' = T) ⟨by rw [ofBN_zero (fun x hx => hPf x (by omega))]; rfl, rfl⟩ ?_
  rintro n _ T' K hn ⟨rfl, rfl⟩ hK
  refine pt_attributes W A (by exact ha) hs ?_
  (try simp (disch := omega) only [L_le, le_L, L_lt, lt_L, eq_L, L_eq, I_le, I_lt, I_eq, I_ni, add_L, L_add, I_add, mul_L, L_mul, I_mul, sub_L, L_sub, I_sub, div_L, rem_L])
  by_cases e : G.cnt (G.sy p at_) ≤ G.ins (G.sy p at_) + n
  · refine brT e ?_
    rw [show ofBN P (8 * at_ + (G.ins (G.sy p at_) + n)) = ofB P from (ofBN_skip 32 (by omega) (fun x h1 h2 => hPf x (by omega))).symm]
    exact h
  refine brF e ⟨tix_I rfl (by show _ < 64; omega) (by decide), ?_⟩
  rintro m4 rfl
  rw [hV.2 _ (by omega)]
  have b1 := hB.vo9 (G.ins (G.sy p at_) + n) (by omega)
  have b2 := hB.vs9
  refine hK _ _ (by omega) ⟨?_, rfl⟩
  refine Prod.ext ?_ rfl
  show _ = if P (8 * at_ + (G.ins (G.sy p at_) + n)) then ofBN P (8 * at_ + (G.ins (G.sy p at_) + n)) ||| jshl 1 (I (8 * at_ + (G.ins (G.sy p at_) + n))) else ofBN P (8 * at_ + (G.ins (G.sy p at_) + n))
  have em : (8 * at_ + (G.ins (G.sy p at_) + n)) % 8 = G.ins (G.sy p at_) + n := by omega
  by_cases hv' : G.vo ind (G.sy p at_) (G.ins (G.sy p at_) + n) = v
  · have hp1 : P (8 * at_ + (G.ins (G.sy p at_) + n)) = true := decide_eq_true ⟨by omega, by omega, by omega, by rw [em]; exact hv'⟩
    rw [if_pos hp1, if_pos (by rw [hv'])]
  · have hp1 : ¬ P (8 * at_ + (G.ins (G.sy p at_) + n)) = true := by
      intro hh; have := of_decide_eq_true hh
      rw [em] at this; exact hv' this.2.2.2
    rw [if_neg hp1, if_neg (fun hh => hv' ((I_eq (by omega) (by omega)).1 hh)), or_zero]
end
section
variable {G : Gv} {T : TS}

theorem zero_le_I {k : Nat} (h : k < 2147483648) : (0 : Int32) ≤ I k := (L_le 0 (by decide) h).2 (Nat.zero_le _)

theorem le_sub1 {p n : Nat} (hp : p < 2147483648) (hn : n ≤ 100) : (0 ≤ I p ∧ I p ≤ I n - 1) ↔ p < n := by
  by_cases h0 : n = 0
  · subst h0
    constructor
    · rintro ⟨h1, h2⟩
      have e : I 0 - 1 = -1 := by decide
      rw [e] at h2
      exact absurd h2 (by
        intro hh
        have h3 := Int32.le_iff_toInt_le.1 hh
        rw [I_toInt hp] at h3
        have e2 : (-1 : Int32).toInt = -1 := by decide
        omega)
    · intro h; omega
  · rw [show I n - 1 = I (n - 1) from I_sub (a := n) (b := 1) (by omega)]
    constructor
    · rintro ⟨_, h2⟩
      have := (I_le (by omega) (by omega)).1 h2; omega
    · intro h
      exact ⟨zero_le_I (by omega), (I_le (by omega) (by omega)).2 (by omega)⟩

theorem pt_isProduction (W : G.WF) {a1 : Nat → Int32} (A : TG a1 G) (ha : T.a 1 = a1) (hg : T.s 209 = 1) {p : Nat} (hp : p < 2147483648) {Q : Int32 → TS → Prop}
    (h : Q (if p < G.nP then 1 else 0) T) : wp_X1_isProduction (I p) T Q := by
  have hP := W.nP
  unfold wp_X1_isProduction
  rw [hg]
  refine brF (by decide) ⟨tix_I (k := 1) rfl (by decide) (by decide), ?_⟩
  rw [show ni 1 = 1 from rfl, ha, A.nP]
  refine pt_isFrom ?_
  rintro m rfl
  by_cases hlt : p < G.nP
  · rw [if_pos ((le_sub1 hp (by omega)).2 hlt)]
    rw [if_pos hlt] at h
    exact ⟨.inr rfl, h⟩
  · rw [if_neg (fun hh => hlt ((le_sub1 hp (by omega)).1 hh))]
    rw [if_neg hlt] at h
    exact ⟨.inl rfl, h⟩

theorem pt_isPosition (W : G.WF) {j : Nat} (hj : j = 1 ∨ j = 2) {a1 : Nat → Int32} (A : TG a1 G) (ha : T.a j = a1) {p k : Nat} (hp : p < G.nP) (hk : k < 2147483648) {Q : Int32 → TS → Prop}
    (h : Q (if k ≤ G.kn p then 1 else 0) T) : wp_X1_isPosition j (I p) (I k) T Q := by
  have hP := W.nP
  have hK3 := W.kn p hp
  have tl : tlen j = 3816 ∧ ttg j = 40 := by rcases hj with rfl | rfl <;> exact ⟨rfl, rfl⟩
  unfold wp_X1_isPosition
  (try simp (disch := omega) only [L_le, le_L, L_lt, lt_L, eq_L, L_eq, I_le, I_lt, I_eq, I_ni, add_L, L_add, I_add, mul_L, L_mul, I_mul, sub_L, L_sub, I_sub, div_L, rem_L])
  refine ⟨tix_I tl.2 (by omega) (by omega), ?_⟩
  rw [ha, A.kn p hp]
  refine pt_isFrom ?_
  have e : (0 ≤ I k ∧ I k ≤ I (G.kn p)) ↔ k ≤ G.kn p := by
    constructor
    · rintro ⟨_, h⟩; exact (I_le (by omega) (by omega)).1 h
    · intro h; exact ⟨zero_le_I (by omega), (I_le (by omega) (by omega)).2 h⟩
  by_cases hk' : k ≤ G.kn p
  · rw [if_pos (e.2 hk')]; rw [if_pos hk'] at h; exact ⟨.inr rfl, h⟩
  · rw [if_neg (fun hh => hk' (e.1 hh))]; rw [if_neg hk'] at h; exact ⟨.inl rfl, h⟩

theorem pt_isOcc (W : G.WF) {a1 : Nat → Int32} (A : TG a1 G) (ha : T.a 1 = a1) (hg : T.s 209 = 1) {p o : Nat} (hp : p < G.nP) (ho : o < 2147483648) {Q : Int32 → TS → Prop}
    (h : Q (if G.oc p o then 1 else 0) T) : wp_X1_isOcc (I p) (I o) T Q := by
  have hP := W.nP
  have hK3 := W.kn p hp
  unfold wp_X1_isOcc
  refine pt_isProduction W A ha hg (by omega) ?_
  rw [if_pos hp]
  refine brF (by
    rintro (hh | hh)
    · exact absurd hh (by decide)
    · exact I_nonneg ho hh) ?_
  (try simp (disch := omega) only [L_le, le_L, L_lt, lt_L, eq_L, L_eq, I_le, I_lt, I_eq, I_ni, add_L, L_add, I_add, mul_L, L_mul, I_mul, sub_L, L_sub, I_sub, div_L, rem_L])
  refine pt_isPosition W (.inl rfl) A ha hp (by omega) ?_
  by_cases hk : o / 8 ≤ G.kn p
  · rw [if_pos hk]
    refine brF (by decide) ?_
    refine pt_symbolAt (.inl rfl) W A ha hp hk ?_
    have hs := W.sy p _ hp hk
    have hc := W.cnt8 hs
    refine pt_attributes W A ha hs ?_
    rintro m rfl
    (try simp (disch := omega) only [L_le, le_L, L_lt, lt_L, eq_L, L_eq, I_le, I_lt, I_eq, I_ni, add_L, L_add, I_add, mul_L, L_mul, I_mul, sub_L, L_sub, I_sub, div_L, rem_L])
    by_cases hc' : G.cnt (G.sy p (o / 8)) ≤ o % 8
    · rw [if_pos hc']
      rw [if_neg (fun hh : G.oc p o => by have := hh.2.2; omega)] at h
      exact ⟨.inl rfl, h⟩
    · rw [if_neg hc']
      rw [if_pos (show G.oc p o from ⟨by omega, hk, by omega⟩)] at h
      exact ⟨.inr rfl, h⟩
  · rw [if_neg hk]
    refine brT rfl ?_
    rw [if_neg (fun hh : G.oc p o => hk hh.2.1)] at h
    exact h

theorem pt_canTell (W : G.WF) {j : Nat} (hj : j = 1 ∨ j = 2) {a1 : Nat → Int32} (A : TG a1 G) (ha : T.a j = a1) {p o : Nat} (hp : p < G.nP) (ho : G.oc p o) {Q : Int32 → TS → Prop}
    (h : Q (if G.tl p o then 1 else 0) T) : wp_X1_canTell j (I p) (I o) T Q := by
  have hP := W.nP
  have hS := W.nS
  have h32 := ho.1
  have tl : tlen j = 3816 ∧ ttg j = 40 := by rcases hj with rfl | rfl <;> exact ⟨rfl, rfl⟩
  have hs := W.ocS hp ho
  have hi := W.ins _ hs
  unfold wp_X1_canTell
  (try simp (disch := omega) only [L_le, le_L, L_lt, lt_L, eq_L, L_eq, I_le, I_lt, I_eq, I_ni, add_L, L_add, I_add, mul_L, L_mul, I_mul, sub_L, L_sub, I_sub, div_L, rem_L])
  refine pt_symbolAt hj W A ha hp ho.2.1 ?_
  (try simp (disch := omega) only [L_le, le_L, L_lt, lt_L, eq_L, L_eq, I_le, I_lt, I_eq, I_ni, add_L, L_add, I_add, mul_L, L_mul, I_mul, sub_L, L_sub, I_sub, div_L, rem_L])
  refine ⟨tix_I tl.2 (by omega) (by omega), ?_⟩
  rintro m3 rfl
  rintro m5 rfl
  rw [ha, A.ins _ hs]
  (try simp (disch := omega) only [L_le, le_L, L_lt, lt_L, eq_L, L_eq, I_le, I_lt, I_eq, I_ni, add_L, L_add, I_add, mul_L, L_mul, I_mul, sub_L, L_sub, I_sub, div_L, rem_L])
  have key : (if o / 8 = 0 then (if o % 8 < G.ins (G.sy p (o / 8)) then (0 : Int32) else 1) else (if (if o % 8 < G.ins (G.sy p (o / 8)) then (0 : Int32) else 1) = 0 then 1 else 0)) = if G.tl p o then 1 else 0 := by
    by_cases h1 : o / 8 = 0
    · rw [if_pos h1]
      by_cases h2 : o % 8 < G.ins (G.sy p (o / 8))
      · rw [if_pos h2, if_neg]
        intro hh; have := hh.2.2 (by omega); omega
      · rw [if_neg h2, if_pos]
        exact ⟨ho, ⟨fun _ => by omega, fun _ => by omega⟩⟩
    · rw [if_neg h1]
      by_cases h2 : o % 8 < G.ins (G.sy p (o / 8))
      · rw [if_pos h2, if_pos rfl, if_pos]
        exact ⟨ho, ⟨fun _ => by omega, fun _ => by omega⟩⟩
      · rw [if_neg h2, if_neg (by decide), if_neg]
        intro hh; have := hh.2.1 (by omega); omega
  rw [key]
  refine ⟨?_, h⟩
  by_cases hh : G.tl p o <;> simp [bz, hh]

theorem sub_dec {a b : Int32} : sub a b = true ↔ (a &&& (b ^^^ (-1))) = 0 := by unfold sub; exact decide_eq_true_iff

theorem pt_nextRule (W : G.WF) {a1 : Nat → Int32} (A : TG a1 G) (ha : T.a 1 = a1) (hg : T.s 209 = 1) {p : Nat} (hp : p < G.nP) {known : Int32} {Q : Int32 → TS → Prop}
    (h : Q (oI (G.nxR p known)) T) : wp_X1_nextRule (I p) known T Q := by
  unfold wp_X1_nextRule
  refine tlp_find 32 (fun o => decide (G.tl p o) && !bt known o && sub (G.ask p o) known) ?_ ?_ ?_
  · intro hn K
    refine brT (by (first | omega | ((try simp (disch := omega) only [L_le, le_L, L_lt, lt_L, eq_L, L_eq, I_le, I_lt, I_eq, I_ni, add_L, L_add, I_add, mul_L, L_mul, I_mul, sub_L, L_sub, I_sub, div_L, rem_L]); done) | ((try simp (disch := omega) only [L_le, le_L, L_lt, lt_L, eq_L, L_eq, I_le, I_lt, I_eq, I_ni, add_L, L_add, I_add, mul_L, L_mul, I_mul, sub_L, L_sub, I_sub, div_L, rem_L]); omega))) ?_
    rw [Gv.nxR, hn] at h; exact h
  · intro k K hk hP hf
    simp only [Bool.and_eq_true, decide_eq_true_eq, Bool.not_eq_true'] at hP
    refine brF (by (first | omega | ((try simp (disch := omega) only [L_le, le_L, L_lt, lt_L, eq_L, L_eq, I_le, I_lt, I_eq, I_ni, add_L, L_add, I_add, mul_L, L_mul, I_mul, sub_L, L_sub, I_sub, div_L, rem_L]); done) | ((try simp (disch := omega) only [L_le, le_L, L_lt, lt_L, eq_L, L_eq, I_le, I_lt, I_eq, I_ni, add_L, L_add, I_add, mul_L, L_mul, I_mul, sub_L, L_sub, I_sub, div_L, rem_L]); omega))) ?_
    refine pt_isOcc W A ha hg hp (by omega) ?_
    rw [if_pos hP.1.1.1]
    refine brF (by decide) ?_
    refine pt_canTell W (.inl rfl) A ha hp hP.1.1.1 ?_
    rw [if_pos hP.1.1]
    refine brF (by decide) (pt_has hk ?_)
    rw [hP.1.2]
    refine brT rfl ?_
    refine pt_asks W A ha hp hk ?_
    refine brT (sub_dec.1 hP.2) ?_
    rw [Gv.nxR, hf] at h; exact h
  · intro k K hk hP hK
    refine brF (by (first | omega | ((try simp (disch := omega) only [L_le, le_L, L_lt, lt_L, eq_L, L_eq, I_le, I_lt, I_eq, I_ni, add_L, L_add, I_add, mul_L, L_mul, I_mul, sub_L, L_sub, I_sub, div_L, rem_L]); done) | ((try simp (disch := omega) only [L_le, le_L, L_lt, lt_L, eq_L, L_eq, I_le, I_lt, I_eq, I_ni, add_L, L_add, I_add, mul_L, L_mul, I_mul, sub_L, L_sub, I_sub, div_L, rem_L]); omega))) ?_
    refine pt_isOcc W A ha hg hp (by omega) ?_
    (try simp (disch := omega) only [L_le, le_L, L_lt, lt_L, eq_L, L_eq, I_le, I_lt, I_eq, I_ni, add_L, L_add, I_add, mul_L, L_mul, I_mul, sub_L, L_sub, I_sub, div_L, rem_L])
    by_cases ho : G.oc p k
    · rw [if_pos ho]
      refine brF (by decide) ?_
      refine pt_canTell W (.inl rfl) A ha hp ho ?_
      by_cases ht : G.tl p k
      · rw [if_pos ht]
        refine brF (by decide) (pt_has hk ?_)
        cases hb : bt known k with
        | true => exact brF (by decide) hK
        | false =>
          refine brT rfl ?_
          refine pt_asks W A ha hp hk ?_
          refine brF (fun hh => ?_) hK
          simp [ht, hb, sub_dec.2 hh] at hP
      · rw [if_neg ht]; exact brT rfl hK
    · rw [if_neg ho]; exact brT rfl hK

theorem pt_nextChild (W : G.WF) {a1 : Nat → Int32} (A : TG a1 G) (ha : T.a 1 = a1) {ind : Nat → Int32} {p : Nat} (hp : p < G.nP) {known : Int32} {went : Nat → Nat}
    (hB : ∀ k, k ≤ G.kn p → G.VB ind (G.sy p k)) (hV : ∀ k, k ≤ G.kn p → VisA G ind (T.a 11) (T.a 12) (G.sy p k))
    (hw : ∀ c, c < 4 → T.a 14 c = I (went c)) (hwb : ∀ c, c ≤ G.kn p → went c < 100) {Q : Int32 → TS → Prop} (h : Q (oI (G.nxC ind p known went)) T) : wp_X1_nextChild (I p) known T Q := by
  have hP := W.nP
  have hK3 := W.kn p hp
  unfold wp_X1_nextChild
  refine tlp_cnt (G.kn p) (fun k s T' => s = I (k + 1) ∧ T' = T ∧ fstN (fun c => decide (1 ≤ c) && decide (went c ≠ G.vs ind (G.sy p c)) && sub (G.inV ind p c (went c + 1)) known) (k + 1) = none) ⟨rfl, rfl, rfl⟩ ?_
  rintro n s T' K hn ⟨rfl, rfl, hf⟩ hK
  (try simp (disch := omega) only [L_le, le_L, L_lt, lt_L, eq_L, L_eq, I_le, I_lt, I_eq, I_ni, add_L, L_add, I_add, mul_L, L_mul, I_mul, sub_L, L_sub, I_sub, div_L, rem_L])
  refine ⟨tix_I rfl (by show _ < 3816; omega) (by decide), ?_⟩
  rw [ha, A.kn p hp]
  by_cases e : n = G.kn p
  · subst e
    refine brT (by (first | omega | ((try simp (disch := omega) only [L_le, le_L, L_lt, lt_L, eq_L, L_eq, I_le, I_lt, I_eq, I_ni, add_L, L_add, I_add, mul_L, L_mul, I_mul, sub_L, L_sub, I_sub, div_L, rem_L]); done) | ((try simp (disch := omega) only [L_le, le_L, L_lt, lt_L, eq_L, L_eq, I_le, I_lt, I_eq, I_ni, add_L, L_add, I_add, mul_L, L_mul, I_mul, sub_L, L_sub, I_sub, div_L, rem_L]); omega))) ?_
    rw [Gv.nxC, hf] at h; exact h
  have hn' : n + 1 ≤ G.kn p := by omega
  refine brF (by (first | omega | ((try simp (disch := omega) only [L_le, le_L, L_lt, lt_L, eq_L, L_eq, I_le, I_lt, I_eq, I_ni, add_L, L_add, I_add, mul_L, L_mul, I_mul, sub_L, L_sub, I_sub, div_L, rem_L]); done) | ((try simp (disch := omega) only [L_le, le_L, L_lt, lt_L, eq_L, L_eq, I_le, I_lt, I_eq, I_ni, add_L, L_add, I_add, mul_L, L_mul, I_mul, sub_L, L_sub, I_sub, div_L, rem_L]); omega))) ?_
  refine pt_symbolAt (.inl rfl) W A ha hp hn' ?_
  have hs := W.sy p _ hp hn'
  have hS := W.nS
  have hb := hB _ hn'
  have hv := hV _ hn'
  have b1 := hb.vs9
  have b2 := hwb _ hn'
  refine ⟨tix_I rfl (by show _ < 4; omega) (by decide), tix_I rfl (by show _ < 8; omega) (by decide), ?_⟩
  (try simp (disch := omega) only [L_le, le_L, L_lt, lt_L, eq_L, L_eq, I_le, I_lt, I_eq, I_ni, add_L, L_add, I_add, mul_L, L_mul, I_mul, sub_L, L_sub, I_sub, div_L, rem_L])
  rw [hw _ (by omega), hv.1]
  (try simp (disch := omega) only [L_le, le_L, L_lt, lt_L, eq_L, L_eq, I_le, I_lt, I_eq, I_ni, add_L, L_add, I_add, mul_L, L_mul, I_mul, sub_L, L_sub, I_sub, div_L, rem_L])
  have hnext : ¬ ((went (n + 1) ≠ G.vs ind (G.sy p (n + 1))) ∧ sub (G.inV ind p (n + 1) (went (n + 1) + 1)) known = true) → K (I (n + 1 + 1)) T' := by
    intro hc
    refine hK _ _ (by omega) ⟨rfl, rfl, fstN_none.2 (fun j hj => ?_)⟩
    by_cases e : j = n + 1
    · subst e
      cases hh : (decide (1 ≤ n + 1) && decide (went (n + 1) ≠ G.vs ind (G.sy p (n + 1))) && sub (G.inV ind p (n + 1) (went (n + 1) + 1)) known) with
      | false => rfl
      | true =>
        simp only [Bool.and_eq_true, decide_eq_true_eq] at hh
        exact absurd ⟨hh.1.2, hh.2⟩ hc
    · exact fstN_none.1 hf j (by omega)
  by_cases e1 : went (n + 1) = G.vs ind (G.sy p (n + 1))
  · exact brT e1 (hnext (fun hh => hh.1 e1))
  refine brF e1 ⟨tix_I rfl (by show _ < 4; omega) (by decide), ?_⟩
  refine pt_insOf W A ha hp hn' (by omega) hb hv ?_
  by_cases e2 : sub (G.inV ind p (n + 1) (went (n + 1) + 1)) known = true
  · refine brT (sub_dec.1 e2) ?_
    have : G.nxC ind p known went = some (n + 1) := by
      unfold Gv.nxC
      exact fstN_some.2 ⟨by omega, by simp [e1, e2], fstN_none.1 hf⟩
    rw [this] at h; exact h
  · exact brF (fun hh => e2 (sub_dec.2 hh)) (hnext (fun hh => e2 hh.2))
end
section
variable {G : Gv} {T : TS}

/-- the twin's steps. -/
def TStp (T : TS) (L : List Int32) : Prop := T.s 233 = I L.length ∧ ∀ i, i < L.length → T.a 13 i = L.getD i 0

theorem pt_step {L : List Int32} {x : Int32} (hS : TStp T L) (hl : L.length < 100) {Q : TS → Prop} (h : ∀ T', Tch [13] [233] T T' → TStp T' (L ++ [x]) → Q T') : wp_X1_step x T Q := by
  unfold wp_X1_step
  rw [hS.1]
  refine ⟨tix_I rfl hl (by decide), ?_⟩
  rintro _ rfl
  rintro _ rfl
  refine h _ (by rw [sa_wa]; exact ((Tch.refl T).wa (by decide) _).ss (by decide) _) ⟨?_, ?_⟩
  · simp only [sa_wa, wa_s, ss_s, if_true, hS.1]
    (try simp (disch := omega) only [L_le, le_L, L_lt, lt_L, eq_L, L_eq, I_le, I_lt, I_eq, I_ni, add_L, L_add, I_add, mul_L, L_mul, I_mul, sub_L, L_sub, I_sub, div_L, rem_L])
    simp
  · intro i hi
    simp only [List.length_append, List.length_singleton] at hi
    simp only [sa_wa, ss_a, wa_a, if_true]
    rw [I_ni (by omega)]
    by_cases e : i = L.length
    · subst e; rw [updN_same]; simp
    · rw [updN_ne _ _ e, hS.2 i (by omega)]
      simp only [List.getD_eq_getElem?_getD]
      rw [List.getElem?_append_left (by omega)]

theorem pt_laysPlan (W : G.WF) {a1 : Nat → Int32} (A : TG a1 G) (ha : T.a 1 = a1) (hg : T.s 209 = 1) {ind : Nat → Int32} (h5 : T.a 5 = ind) (hI : G.IsInd ind) {p : Nat} (hp : p < G.nP)
    (hns : ∀ k, k ≤ G.kn p → G.self ind (G.sy p k) = false)
    {Q : TS → Prop} (h : ∀ T' x, Tch [10, 11, 12, 13, 14] [231, 233] T T' → G.IsPl ind p x → TStp T' x.2.2.2 → x.2.2.2.length ≤ 68 → Q T') : wp_X1_laysPlan (I p) T Q := by
  have hP := W.nP
  have hS := W.nS
  have hK3 := W.kn p hp
  have hB : ∀ k, k ≤ G.kn p → G.VB ind (G.sy p k) := fun k hk => hI.vb W (W.sy p k hp hk) (hns k hk)
  have hM0 := Gv.plM0 W hp hB
  unfold wp_X1_laysPlan
  refine pt_laysAllVisits W A ha (by rw [h5]; exact hI) ?_
  intro T1 hc1 hv1
  rw [h5] at hv1
  have hc1' : Tch [10, 11, 12, 13, 14] [231, 233] T T1 := hc1.mono (by decide) (by decide)
  rintro _ rfl
  refine tlp_for 4 (fun k => (T1.ss 233 0).wa 14 (mixN k (fun _ => 0) (T1.a 14))) (by rw [mixN_0]; exact wa_self (T1.ss 233 0) 14) ?_ ?_
  · intro k K hk hK
    refine brF (by (first | omega | ((try simp (disch := omega) only [L_le, le_L, L_lt, lt_L, eq_L, L_eq, I_le, I_lt, I_eq, I_ni, add_L, L_add, I_add, mul_L, L_mul, I_mul, sub_L, L_sub, I_sub, div_L, rem_L]); done) | ((try simp (disch := omega) only [L_le, le_L, L_lt, lt_L, eq_L, L_eq, I_le, I_lt, I_eq, I_ni, add_L, L_add, I_add, mul_L, L_mul, I_mul, sub_L, L_sub, I_sub, div_L, rem_L]); omega))) ⟨tix_I rfl (by show _ < 4; omega) (by decide), ?_⟩
    rintro _ rfl
    simp only [sa_wa, wa_wa, wa_a, if_true]
    (try simp (disch := omega) only [L_le, le_L, L_lt, lt_L, eq_L, L_eq, I_le, I_lt, I_eq, I_ni, add_L, L_add, I_add, mul_L, L_mul, I_mul, sub_L, L_sub, I_sub, div_L, rem_L])
    have := mixN_succ (n := k) (fun _ => (0 : Int32)) (T1.a 14)
    rw [this]; exact hK
  intro K
  refine brT (by (first | omega | ((try simp (disch := omega) only [L_le, le_L, L_lt, lt_L, eq_L, L_eq, I_le, I_lt, I_eq, I_ni, add_L, L_add, I_add, mul_L, L_mul, I_mul, sub_L, L_sub, I_sub, div_L, rem_L]); done) | ((try simp (disch := omega) only [L_le, le_L, L_lt, lt_L, eq_L, L_eq, I_le, I_lt, I_eq, I_ni, add_L, L_add, I_add, mul_L, L_mul, I_mul, sub_L, L_sub, I_sub, div_L, rem_L]); omega))) ?_
  (try simp (disch := omega) only [L_le, le_L, L_lt, lt_L, eq_L, L_eq, I_le, I_lt, I_eq, I_ni, add_L, L_add, I_add, mul_L, L_mul, I_mul, sub_L, L_sub, I_sub, div_L, rem_L])
  refine ⟨tix_I rfl (by show _ < 3816; omega) (by decide), ?_⟩
  have ha1 : T1.a 1 = a1 := by rw [hc1.a 1 (by decide)]; exact ha
  have e0 : ((T1.ss 233 0).wa 14 (mixN 4 (fun _ => 0) (T1.a 14))).a 1 = a1 := ha1
  rw [e0, A.left p hp]
  have hV0 : ∀ k, k ≤ G.kn p → VisA G ind (T1.a 11) (T1.a 12) (G.sy p k) := fun k hk => hv1 _ (W.sy p k hp hk) (hns k hk)
  refine pt_insOf (T := (T1.ss 233 0).wa 14 (mixN 4 (fun _ => 0) (T1.a 14))) (at_ := 0) (v := 1) W A ha1 hp (Nat.zero_le _) (by omega) (hB 0 (Nat.zero_le _)) (hV0 0 (Nat.zero_le _)) ?_
  have hs0 := W.sy p 0 hp (Nat.zero_le _)
  have b0 := (hB 0 (Nat.zero_le _)).vs9
  refine ⟨fun n q T' => ∃ k, (∀ j, j < k → (G.plK ind p j).1 ≤ G.vs ind (G.sy p 0)) ∧ q = (I (G.plK ind p k).1, (G.plK ind p k).2.1) ∧ Tch [10, 11, 12, 13, 14] [231, 233] T T' ∧
      T'.a 11 = T1.a 11 ∧ T'.a 12 = T1.a 12 ∧ (∀ c, c < 4 → T'.a 14 c = I ((G.plK ind p k).2.2.1 c)) ∧ TStp T' (G.plK ind p k).2.2.2 ∧ n = G.plM ind p (G.plK ind p k), ?_, ?_⟩
  · refine ⟨G.plM ind p (G.pl0 ind p), 0, fun j hj => by omega, rfl, (hc1'.ss (by decide) _).wa (by decide) _, rfl, rfl, fun c hc => ?_, ⟨rfl, fun i hi => absurd hi (by simp [Gv.plK, Gv.pl0])⟩, rfl⟩
    simp only [wa_a, if_true, mixN, hc]; rfl
  rintro n _ T' ⟨k, hk, rfl, hch, h11, h12, hw, hst, rfl⟩
  obtain ⟨hPI, hlen⟩ := Gv.plK_all W hp k hk
  have ha' : T'.a 1 = a1 := by rw [hch.a 1 (by decide)]; exact ha
  have hg' : T'.s 209 = 1 := by rw [hch.s 209 (by decide)]; exact hg
  have hV : ∀ k, k ≤ G.kn p → VisA G ind (T'.a 11) (T'.a 12) (G.sy p k) := by rw [h11, h12]; exact hV0
  have hvp := hPI.vp
  refine ⟨tix_I rfl (by show _ < 8; omega) (by decide), ?_⟩
  rw [I_ni (by omega), (hV 0 (Nat.zero_le _)).1]
  by_cases hend : G.vs ind (G.sy p 0) < (G.plK ind p k).1
  · refine brT ?_ (h T' _ hch ⟨k, rfl, hend, hk⟩ hst (by omega))
    exact (I_lt (by omega) (by have := hPI.vu; omega)).2 hend
  have hvis : (G.plK ind p k).1 ≤ G.vs ind (G.sy p 0) := by omega
  obtain ⟨hPI', hM'⟩ := Gv.plS_inv W hp hPI hvis
  have hk' : ∀ j, j < k + 1 → (G.plK ind p j).1 ≤ G.vs ind (G.sy p 0) := by
    intro j hj
    by_cases e : j = k
    · rw [e]; exact hvis
    · exact hk j (by omega)
  refine brF (by (first | omega | ((try simp (disch := omega) only [L_le, le_L, L_lt, lt_L, eq_L, L_eq, I_le, I_lt, I_eq, I_ni, add_L, L_add, I_add, mul_L, L_mul, I_mul, sub_L, L_sub, I_sub, div_L, rem_L]); done) | ((try simp (disch := omega) only [L_le, le_L, L_lt, lt_L, eq_L, L_eq, I_le, I_lt, I_eq, I_ni, add_L, L_add, I_add, mul_L, L_mul, I_mul, sub_L, L_sub, I_sub, div_L, rem_L]); omega))) ?_
  refine pt_outsOf (at_ := 0) W A (by exact ha') hp (Nat.zero_le _) (by omega) (hB 0 (Nat.zero_le _)) (hV 0 (Nat.zero_le _)) ?_
  rintro m14 rfl
  refine pt_nextRule W A (by exact ha') hg' hp ?_
  refine pt_nextChild W A (by exact ha') hp hB hV hw (fun c hc => ?_) ?_
  · by_cases e : c = 0
    · rw [e, hPI.wz]; omega
    · have := hPI.wt c (by omega) hc
      have := (hB c hc).vs9
      omega
  refine ⟨tix_I rfl (by show _ < 8; omega) (by decide), ?_⟩
  rw [(hV 0 (Nat.zero_le _)).1]
  dsimp only
  -- how a step ends
  have fin : ∀ T'' (x : PSt), G.plS ind p (G.plK ind p k) = x → Tch [10, 11, 12, 13, 14] [231, 233] T T'' → T''.a 11 = T1.a 11 → T''.a 12 = T1.a 12 → (∀ c, c < 4 → T''.a 14 c = I (x.2.2.1 c)) → TStp T'' x.2.2.2 →
      ∃ m, m < G.plM ind p (G.plK ind p k) ∧ ∃ k, (∀ j, j < k → (G.plK ind p j).1 ≤ G.vs ind (G.sy p 0)) ∧ (I x.1, x.2.1) = (I (G.plK ind p k).1, (G.plK ind p k).2.1) ∧ Tch [10, 11, 12, 13, 14] [231, 233] T T'' ∧
      T''.a 11 = T1.a 11 ∧ T''.a 12 = T1.a 12 ∧ (∀ c, c < 4 → T''.a 14 c = I ((G.plK ind p k).2.2.1 c)) ∧ TStp T'' (G.plK ind p k).2.2.2 ∧ m = G.plM ind p (G.plK ind p k) := by
    intro T'' x hx h1 h2 h3 h4 h5
    subst hx
    exact ⟨_, hM', k + 1, hk', rfl, h1, h2, h3, h4, h5, rfl⟩
  have hll : (G.plK ind p k).2.2.2.length < 100 := by omega
  -- a visit is left
  have leave : (((G.plK ind p k).1 < G.vs ind (G.sy p 0) ∧ sub (G.ouV ind p 0 (G.plK ind p k).1) (G.plK ind p k).2.1 = true) ∨ (G.nxR p (G.plK ind p k).2.1 = none ∧ G.nxC ind p (G.plK ind p k).2.1 (G.plK ind p k).2.2.1 = none)) →
      wp_X1_step (1000 + I (G.plK ind p k).1) T' fun T24 => wp_X1_insOf 0 (I (G.sy p 0)) (I (G.plK ind p k).1 + 1) T24 fun r27 T26 =>
        ∃ m, m < G.plM ind p (G.plK ind p k) ∧ ∃ k_1, (∀ j, j < k_1 → (G.plK ind p j).1 ≤ G.vs ind (G.sy p 0)) ∧ (I (G.plK ind p k).1 + 1, (G.plK ind p k).2.1 ||| r27) = (I (G.plK ind p k_1).1, (G.plK ind p k_1).2.1) ∧ Tch [10, 11, 12, 13, 14] [231, 233] T T26 ∧
      T26.a 11 = T1.a 11 ∧ T26.a 12 = T1.a 12 ∧ (∀ c, c < 4 → T26.a 14 c = I ((G.plK ind p k_1).2.2.1 c)) ∧ TStp T26 (G.plK ind p k_1).2.2.2 ∧ m = G.plM ind p (G.plK ind p k_1) := by
    intro hc
    have hx : G.plS ind p (G.plK ind p k) = ⟨(G.plK ind p k).1 + 1, (G.plK ind p k).2.1 ||| G.inV ind p 0 ((G.plK ind p k).1 + 1), (G.plK ind p k).2.2.1, (G.plK ind p k).2.2.2 ++ [I (1000 + (G.plK ind p k).1)]⟩ := by
      unfold Gv.plS; rw [if_pos hc]
    refine pt_step hst hll ?_
    intro T'' hch' hst'
    have e11 : T''.a 11 = T1.a 11 := by rw [hch'.a 11 (by decide)]; exact h11
    have e12 : T''.a 12 = T1.a 12 := by rw [hch'.a 12 (by decide)]; exact h12
    (try simp (disch := omega) only [L_le, le_L, L_lt, lt_L, eq_L, L_eq, I_le, I_lt, I_eq, I_ni, add_L, L_add, I_add, mul_L, L_mul, I_mul, sub_L, L_sub, I_sub, div_L, rem_L])
    refine pt_insOf (at_ := 0) W A (show T''.a 1 = a1 by rw [hch'.a 1 (by decide)]; exact ha') hp (Nat.zero_le _) (by omega) (hB 0 (Nat.zero_le _)) (by rw [e11, e12]; exact hV0 0 (Nat.zero_le _)) ?_
    refine fin T'' _ hx (hch.trans (hch'.mono (by decide) (by decide))) e11 e12 (fun c hc => ?_) ?_
    · rw [hch'.a 14 (by decide)]; exact hw c hc
    · rw [show (1000 : Int32) + I (G.plK ind p k).1 = I (1000 + (G.plK ind p k).1) from L_add 1000 _] at hst'; exact hst'
  by_cases hdone : (G.plK ind p k).1 < G.vs ind (G.sy p 0) ∧ sub (G.ouV ind p 0 (G.plK ind p k).1) (G.plK ind p k).2.1 = true
  · refine brF ?_ (leave (.inl hdone))
    rintro (hh | hh)
    · have := (I_le (by omega) (by omega)).1 hh; omega
    · rw [if_pos (sub_dec.1 hdone.2)] at hh; exact absurd hh (by decide)
  refine brT ?_ ?_
  · by_cases e : G.vs ind (G.sy p 0) ≤ (G.plK ind p k).1
    · exact .inl ((I_le (by omega) (by omega)).2 e)
    · right
      rw [if_neg (fun hh => hdone ⟨by omega, sub_dec.2 hh⟩)]
  cases hr : G.nxR p (G.plK ind p k).2.1 with
  | some o =>
    obtain ⟨ho, ⟨h1, h2, h3⟩, _⟩ := Gv.nxR_iff.1 hr
    refine brF (fun hh => I_neg1_ne (show o < 2147483648 by omega) hh.1) ?_
    refine brF (I_neg1_ne (show o < 2147483648 by omega)) ?_
    have hx : G.plS ind p (G.plK ind p k) = ⟨(G.plK ind p k).1, (G.plK ind p k).2.1 ||| jshl 1 (I o), (G.plK ind p k).2.2.1, (G.plK ind p k).2.2.2 ++ [I (100 + o)]⟩ := by
      unfold Gv.plS; rw [if_neg (by rw [hr]; rintro (hh | hh); exact hdone hh; exact absurd hh.1 (by simp)), hr]
    refine pt_step hst hll ?_
    intro T'' hch' hst'
    have e11 : T''.a 11 = T1.a 11 := by rw [hch'.a 11 (by decide)]; exact h11
    have e12 : T''.a 12 = T1.a 12 := by rw [hch'.a 12 (by decide)]; exact h12
    refine fin T'' _ hx (hch.trans (hch'.mono (by decide) (by decide))) e11 e12 (fun c hc => ?_) ?_
    · rw [hch'.a 14 (by decide)]; exact hw c hc
    · rw [show (100 : Int32) + oI (some o) = I (100 + o) from L_add 100 _] at hst'; exact hst'
  | none =>
    cases hcx : G.nxC ind p (G.plK ind p k).2.1 (G.plK ind p k).2.2.1 with
    | none =>
      exact brT ⟨rfl, rfl⟩ (leave (.inr ⟨hr, hcx⟩))
    | some c =>
      obtain ⟨c1, c2, c3, c4⟩ := Gv.nxC_some hcx
      have hwc := hPI.wt c c1 c2
      have b9 := (hB c c2).vs9
      refine brF (fun hh => I_neg1_ne (show c < 2147483648 by omega) hh.2) ?_
      refine brT rfl ?_
      have hx : G.plS ind p (G.plK ind p k) = ⟨(G.plK ind p k).1, (G.plK ind p k).2.1 ||| G.ouV ind p c ((G.plK ind p k).2.2.1 c + 1), updN (G.plK ind p k).2.2.1 c ((G.plK ind p k).2.2.1 c + 1), (G.plK ind p k).2.2.2 ++ [I (10 * c + ((G.plK ind p k).2.2.1 c + 1))]⟩ := by
        unfold Gv.plS; rw [if_neg (by rw [hcx]; rintro (hh | hh); exact hdone hh; exact absurd hh.2 (by simp)), hr, hcx]
      have tc : tix 14 40 (oI (some c)) := tix_I rfl (show c < 4 by omega) (by decide)
      refine ⟨tc, tc, ?_⟩
      rintro _ rfl
      have en : ni (oI (some c)) = c := I_ni (by omega)
      rw [en, hw c (by omega)]
      have e14 : (T'.sa 14 c (I ((G.plK ind p k).2.2.1 c) + 1)).a 14 c = I ((G.plK ind p k).2.2.1 c + 1) := by
        rw [sa_wa, wa_a, if_pos rfl, updN_same]; exact add_L 1 _
      rw [e14]
      refine ⟨tc, ?_⟩
      have hch0 : Tch [10, 11, 12, 13, 14] [231, 233] T (T'.sa 14 c (I ((G.plK ind p k).2.2.1 c) + 1)) := by rw [sa_wa]; exact hch.wa (by decide) _
      have hst0 : TStp (T'.sa 14 c (I ((G.plK ind p k).2.2.1 c) + 1)) (G.plK ind p k).2.2.2 := by rw [sa_wa]; exact hst
      refine pt_step hst0 hll ?_
      intro T'' hch' hst'
      have e11 : T''.a 11 = T1.a 11 := by rw [hch'.a 11 (by decide), sa_wa]; exact h11
      have e12 : T''.a 12 = T1.a 12 := by rw [hch'.a 12 (by decide), sa_wa]; exact h12
      have e1 : T''.a 1 = a1 := by rw [hch'.a 1 (by decide), sa_wa]; exact ha'
      have e14' : T''.a 14 c = I ((G.plK ind p k).2.2.1 c + 1) := by rw [hch'.a 14 (by decide)]; exact e14
      refine pt_symbolAt (.inl rfl) W A e1 hp c2 ?_
      rw [e14']
      refine ⟨tc, ?_⟩
      refine pt_outsOf W A e1 hp c2 (by omega) (hB c c2) (by rw [e11, e12]; exact hV0 c c2) ?_
      refine fin T'' _ hx (hch0.trans (hch'.mono (by decide) (by decide))) e11 e12 (fun d hd => ?_) ?_
      · rw [hch'.a 14 (by decide), sa_wa, wa_a, if_pos rfl]
        simp only [updN]
        by_cases e : d = c
        · rw [if_pos e, if_pos e]; exact add_L 1 _
        · rw [if_neg e, if_neg e]; exact hw d hd
      · have : (10 : Int32) * oI (some c) + I ((G.plK ind p k).2.2.1 c + 1) = I (10 * c + ((G.plK ind p k).2.2.1 c + 1)) := by
          show (10 : Int32) * I c + _ = _
          (try simp (disch := omega) only [L_le, le_L, L_lt, lt_L, eq_L, L_eq, I_le, I_lt, I_eq, I_ni, add_L, L_add, I_add, mul_L, L_mul, I_mul, sub_L, L_sub, I_sub, div_L, rem_L])
        rw [this] at hst'; exact hst'
end
