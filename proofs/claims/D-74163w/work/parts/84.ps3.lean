/-! plain: ps3 -/
set_option maxRecDepth 100000
section
variable {A : PG}

theorem addS_sy (W : A.g.WF) {p k : Nat} (hp : p < A.g.nP) (hk : k ≤ A.g.kn p) (f : Nat → Nat) (x : Nat) : updN f A.g.nS x (A.g.sy p k) = f (A.g.sy p k) := updN_ne _ _ (by have := W.sy p k hp hk; omega)
theorem addS_oc (W : A.g.WF) {w i c an} {p o : Nat} (hp : p < A.g.nP) : (A.addS w i c an).g.oc p o ↔ A.g.oc p o := by
  show (o < 32 ∧ o / 8 ≤ A.g.kn p ∧ o % 8 < updN A.g.cnt A.g.nS c (A.g.sy p (o / 8))) ↔ _
  constructor
  · rintro ⟨a, b, d⟩
    rw [addS_sy W hp b] at d
    exact ⟨a, b, d⟩
  · rintro ⟨a, b, d⟩
    exact ⟨a, b, by rw [addS_sy W hp b]; exact d⟩
theorem addS_tl (W : A.g.WF) {w i c an} {p o : Nat} (hp : p < A.g.nP) : (A.addS w i c an).g.tl p o ↔ A.g.tl p o := by
  show ((A.addS w i c an).g.oc p o ∧ (updN A.g.ins A.g.nS i (A.g.sy p (o / 8)) ≤ o % 8 ↔ o < 8)) ↔ _
  constructor
  · rintro ⟨a, b⟩
    have a' := (addS_oc W hp).1 a
    rw [addS_sy W hp a'.2.1] at b
    exact ⟨a', b⟩
  · rintro ⟨a, b⟩
    exact ⟨(addS_oc W hp).2 a, by rw [addS_sy W hp a.2.1]; exact b⟩
theorem addS_WF (W : A.g.WF) (h8 : A.g.nS < 8) {w i c an} (hi : i ≤ 4) (hic : i ≤ c) (hc : c ≤ i + 4) : (A.addS w i c an).g.WF := by
  have up : ∀ (f : Nat → Nat) (x s : Nat), s < A.g.nS + 1 → updN f A.g.nS x s = if s = A.g.nS then x else f s := fun _ _ _ _ => rfl
  refine ⟨by show A.g.nS + 1 ≤ 8; omega, W.nP, fun s hs => ?_, fun s hs => ?_, fun s hs => ?_, W.kn, fun p k hp hk => ?_, fun p o e hp he => ?_, fun p o e x hp he hb => ?_⟩
  · have hs' : s < A.g.nS + 1 := hs
    show updN A.g.ins A.g.nS i s ≤ 4
    by_cases e : s = A.g.nS
    · rw [e, updN_same]; exact hi
    · rw [updN_ne _ _ e]; exact W.ins s (by omega)
  · have hs' : s < A.g.nS + 1 := hs
    show updN A.g.ins A.g.nS i s ≤ updN A.g.cnt A.g.nS c s
    by_cases e : s = A.g.nS
    · rw [e, updN_same, updN_same]; exact hic
    · rw [updN_ne _ _ e, updN_ne _ _ e]; exact W.ic s (by omega)
  · have hs' : s < A.g.nS + 1 := hs
    show updN A.g.cnt A.g.nS c s ≤ updN A.g.ins A.g.nS i s + 4
    by_cases e : s = A.g.nS
    · rw [e, updN_same, updN_same]; exact hc
    · rw [updN_ne _ _ e, updN_ne _ _ e]; exact W.cnt s (by omega)
  · show A.g.sy p k < A.g.nS + 1
    have := W.sy p k hp hk
    omega
  · exact (addS_tl W hp).2 (W.rl p o e hp he)
  · exact (addS_oc W hp).2 (W.rb p o e x hp he hb)
theorem addS_RL (R : A.g.RL) {w i c an} : (A.addS w i c an).g.RL := ⟨R.occ, R.hgt, R.lv⟩

theorem addP_old {α : Type} {p : Nat} (hp : p < A.g.nP) (f : Nat → α) (x : α) : updN f A.g.nP x p = f p := updN_ne _ _ (by omega)
theorem addP_oc {w c ks} {p o : Nat} (hp : p < A.g.nP) : (A.addP w c ks).g.oc p o ↔ A.g.oc p o := by
  show (o < 32 ∧ o / 8 ≤ updN A.g.kn A.g.nP c p ∧ o % 8 < A.g.cnt (updN A.g.sy A.g.nP ks p (o / 8))) ↔ _
  rw [addP_old hp, addP_old hp]
theorem addP_tl {w c ks} {p o : Nat} (hp : p < A.g.nP) : (A.addP w c ks).g.tl p o ↔ A.g.tl p o := by
  show ((A.addP w c ks).g.oc p o ∧ (A.g.ins (updN A.g.sy A.g.nP ks p (o / 8)) ≤ o % 8 ↔ o < 8)) ↔ _
  rw [addP_old hp, addP_oc hp]
theorem addP_WF (W : A.g.WF) (h12 : A.g.nP < 12) {w c ks} (hc : c ≤ 3) (hk : ∀ k, k ≤ c → ks k < A.g.nS) : (A.addP w c ks).g.WF := by
  refine ⟨W.nS, by show A.g.nP + 1 ≤ 12; omega, W.ins, W.ic, W.cnt, fun p hp => ?_, fun p k hp hk' => ?_, fun p o e hp he => ?_, fun p o e x hp he hb => ?_⟩
  · have hp' : p < A.g.nP + 1 := hp
    show updN A.g.kn A.g.nP c p ≤ 3
    by_cases e : p = A.g.nP
    · rw [e, updN_same]; exact hc
    · rw [updN_ne _ _ e]; exact W.kn p (by omega)
  · have hp' : p < A.g.nP + 1 := hp
    have hk2 : k ≤ updN A.g.kn A.g.nP c p := hk'
    show updN A.g.sy A.g.nP ks p k < A.g.nS
    by_cases e : p = A.g.nP
    · rw [e, updN_same] at hk2 ⊢; exact hk k hk2
    · rw [updN_ne _ _ e] at hk2 ⊢; exact W.sy p k (by omega) hk2
  · have hp' : p < A.g.nP + 1 := hp
    have he' : updN A.g.rl A.g.nP (fun _ => none) p o = some e := he
    by_cases e1 : p = A.g.nP
    · rw [e1, updN_same] at he'; exact absurd he' (by simp)
    · rw [updN_ne _ _ e1] at he'
      exact (addP_tl (by omega)).2 (W.rl p o e (by omega) he')
  · have hp' : p < A.g.nP + 1 := hp
    have he' : updN A.g.rl A.g.nP (fun _ => none) p o = some e := he
    by_cases e1 : p = A.g.nP
    · rw [e1, updN_same] at he'; exact absurd he' (by simp)
    · rw [updN_ne _ _ e1] at he'
      exact (addP_oc (by omega)).2 (W.rb p o e x (by omega) he' hb)
theorem addP_rl {w c ks} {p o : Nat} {e : Ex} (hp : p < (A.addP w c ks).g.nP) (he : (A.addP w c ks).g.rl p o = some e) : p < A.g.nP ∧ A.g.rl p o = some e := by
  have hp' : p < A.g.nP + 1 := hp
  have he' : updN A.g.rl A.g.nP (fun _ => none) p o = some e := he
  by_cases e1 : p = A.g.nP
  · rw [e1, updN_same] at he'; exact absurd he' (by simp)
  · rw [updN_ne _ _ e1] at he'; exact ⟨by omega, he'⟩
theorem addP_RL (R : A.g.RL) {w c ks} : (A.addP w c ks).g.RL :=
  ⟨fun p o e x hp he => R.occ p o e x (addP_rl hp he).1 (addP_rl hp he).2, fun p o e hp he => R.hgt p o e (addP_rl hp he).1 (addP_rl hp he).2, fun p o e hp he => R.lv p o e (addP_rl hp he).1 (addP_rl hp he).2⟩

theorem addR_rl {p o : Nat} {e : Ex} {p' o' : Nat} {e' : Ex} (h : (A.addR p o e).g.rl p' o' = some e') : (p' = p ∧ o' = o ∧ e' = e) ∨ A.g.rl p' o' = some e' := by
  have h' : updN A.g.rl p (updN (A.g.rl p) o (some e)) p' o' = some e' := h
  by_cases e1 : p' = p
  · rw [e1, updN_same] at h'
    by_cases e2 : o' = o
    · rw [e2, updN_same] at h'
      exact .inl ⟨e1, e2, (Option.some.inj h').symm⟩
    · rw [updN_ne _ _ e2] at h'
      rw [e1]; exact .inr h'
  · rw [updN_ne _ _ e1] at h'; exact .inr h'
theorem addR_WF (W : A.g.WF) {p o : Nat} {e : Ex} (ht : A.g.tl p o) (hb : ∀ x, bt e.asks x = true → A.g.oc p x) : (A.addR p o e).g.WF := by
  refine ⟨W.nS, W.nP, W.ins, W.ic, W.cnt, W.kn, W.sy, fun p' o' e' hp he => ?_, fun p' o' e' x hp he hb' => ?_⟩
  · rcases addR_rl he with ⟨e1, e2, _⟩ | h
    · rw [e1, e2]; exact ht
    · exact W.rl p' o' e' hp h
  · rcases addR_rl he with ⟨e1, _, e3⟩ | h
    · rw [e1]; rw [e3] at hb'; exact hb x hb'
    · exact W.rb p' o' e' x hp h hb'
theorem addR_RL (R : A.g.RL) {p o : Nat} {e : Ex} (h1 : ∀ x, (2, x) ∈ e → x < 32) (h2 : Ex.hgt e 0 = some 1) (h3 : Ex.lv e ≤ 24) : (A.addR p o e).g.RL := by
  refine ⟨fun p' o' e' x hp he hx => ?_, fun p' o' e' hp he => ?_, fun p' o' e' hp he => ?_⟩
  · rcases addR_rl he with ⟨_, _, e3⟩ | h
    · rw [e3] at hx; exact h1 x hx
    · exact R.occ p' o' e' x hp h hx
  · rcases addR_rl he with ⟨_, _, e3⟩ | h
    · rw [e3]; exact h2
    · exact R.hgt p' o' e' hp h
  · rcases addR_rl he with ⟨_, _, e3⟩ | h
    · rw [e3]; exact h3
    · exact R.lv p' o' e' hp h

/-- what is read of a rule is well. -/
def exK (A : PG) (p : Nat) (e : Ex) (q1 q2 : Nat) : Prop :=
  (∀ m, Ex.hgt e m = some (m + 1)) ∧
  (q1 + Ex.lv e = q2) ∧
  (q2 ≤ 24) ∧
  (∀ x, (2, x) ∈ e → A.g.oc p x) ∧
  (∀ q, q ∈ e → q.1 < 1000 ∧ q.2 < 100000)
theorem exK.h {A : PG} {p : Nat} {e : Ex} {q1 q2 : Nat} (h9 : exK A p e q1 q2) : ∀ m, Ex.hgt e m = some (m + 1) := h9.1
theorem exK.l {A : PG} {p : Nat} {e : Ex} {q1 q2 : Nat} (h9 : exK A p e q1 q2) : q1 + Ex.lv e = q2 := h9.2.1
theorem exK.m {A : PG} {p : Nat} {e : Ex} {q1 q2 : Nat} (h9 : exK A p e q1 q2) : q2 ≤ 24 := h9.2.2.1
theorem exK.o {A : PG} {p : Nat} {e : Ex} {q1 q2 : Nat} (h9 : exK A p e q1 q2) : ∀ x, (2, x) ∈ e → A.g.oc p x := h9.2.2.2.1
theorem exK.c {A : PG} {p : Nat} {e : Ex} {q1 q2 : Nat} (h9 : exK A p e q1 q2) : ∀ q, q ∈ e → q.1 < 1000 ∧ q.2 < 100000 := h9.2.2.2.2
theorem Ex.lv_pos {e : Ex} (h : Ex.hgt e 0 = some 1) : 1 ≤ Ex.lv e := by
  have key : ∀ (e : Ex) (m k : Nat), Ex.hgt e m = some k → k ≤ m + Ex.lv e := by
    intro e
    induction e with
    | nil => intro m k hh; have := Option.some.inj hh; show k ≤ m + 0; omega
    | cons c l ih =>
      intro m k hh
      obtain ⟨c0, cv⟩ := c
      have hh' : (if c0 ≤ 2 then Ex.hgt l (m + 1) else if c0 = 3 then (if 3 ≤ m then Ex.hgt l (m - 2) else none) else if 2 ≤ m then Ex.hgt l (m - 1) else none) = some k := hh
      show k ≤ m + ((if c0 ≤ 2 then 1 else 0) + Ex.lv l)
      by_cases h2 : c0 ≤ 2
      · rw [if_pos h2] at hh' ⊢
        have := ih _ _ hh'; omega
      · rw [if_neg h2] at hh' ⊢
        by_cases h3 : c0 = 3
        · rw [if_pos h3] at hh'
          by_cases h4 : 3 ≤ m
          · rw [if_pos h4] at hh'; have := ih _ _ hh'; omega
          · rw [if_neg h4] at hh'; exact absurd hh' (by simp)
        · rw [if_neg h3] at hh'
          by_cases h4 : 2 ≤ m
          · rw [if_pos h4] at hh'; have := ih _ _ hh'; omega
          · rw [if_neg h4] at hh'; exact absurd hh' (by simp)
  have := key e 0 1 h
  omega
theorem exK.leaf {p q c v : Nat} (hc : c ≤ 2) (hq : q < 24) (hv : v < 100000) (ho : c = 2 → A.g.oc p v) : exK A p [(c, v)] q (q + 1) := by
  refine ⟨fun m => ?_, ?_, by omega, fun x hx => ?_, fun z hz => ?_⟩
  · show (if c ≤ 2 then some (m + 1) else _) = _
    rw [if_pos hc]
  · show q + ((if c ≤ 2 then 1 else 0) + 0) = q + 1
    rw [if_pos hc]
  · have e := List.mem_singleton.1 hx
    have e1 : 2 = c := (Prod.mk.inj e).1
    have e2 : x = v := (Prod.mk.inj e).2
    rw [e2]; exact ho e1.symm
  · have e := List.mem_singleton.1 hz
    rw [e]; exact ⟨by show c < 1000; omega, hv⟩
theorem exK.two {p q1 q2 q3 c : Nat} {a b : Ex} (K : exK A p a q1 q2) (L : exK A p b q2 q3) (hc : 3 < c) (hc2 : c < 1000) : exK A p (a ++ b ++ [(c, 0)]) q1 q3 := by
  refine ⟨fun m => ?_, ?_, L.m, fun x hx => ?_, fun z hz => ?_⟩
  · rw [Ex.hgt_app, Ex.hgt_app, K.h]
    show (Ex.hgt b (m + 1)).bind _ = _
    rw [L.h]
    show (if c ≤ 2 then some (m + 1 + 1 + 1) else if c = 3 then (if 3 ≤ m + 1 + 1 then some (m + 1 + 1 - 2) else none) else if 2 ≤ m + 1 + 1 then some (m + 1 + 1 - 1) else none) = some (m + 1)
    rw [if_neg (by omega), if_neg (by omega), if_pos (by omega)]
    rfl
  · rw [Ex.lv_app, Ex.lv_app]
    have h1 := K.l
    have h2 := L.l
    show q1 + (Ex.lv a + Ex.lv b + ((if c ≤ 2 then 1 else 0) + 0)) = q3
    rw [if_neg (by omega)]
    omega
  · rcases List.mem_append.1 hx with h | h
    · rcases List.mem_append.1 h with h | h
      · exact K.o x h
      · exact L.o x h
    · have e := List.mem_singleton.1 h
      have e1 : 2 = c := (Prod.mk.inj e).1
      omega
  · rcases List.mem_append.1 hz with h | h
    · rcases List.mem_append.1 h with h | h
      · exact K.c z h
      · exact L.c z h
    · have e := List.mem_singleton.1 h
      rw [e]; exact ⟨hc2, by show 0 < 100000; decide⟩
theorem exK.if_ {p q1 q2 q3 q4 : Nat} {a b d : Ex} (K : exK A p a q1 q2) (L : exK A p b q2 q3) (M : exK A p d q3 q4) : exK A p (a ++ b ++ d ++ [(3, 0)]) q1 q4 := by
  refine ⟨fun m => ?_, ?_, M.m, fun x hx => ?_, fun z hz => ?_⟩
  · rw [Ex.hgt_app, Ex.hgt_app, Ex.hgt_app, K.h]
    show ((Ex.hgt b (m + 1)).bind _).bind _ = _
    rw [L.h]
    show (Ex.hgt d (m + 1 + 1)).bind _ = _
    rw [M.h]
    show (if 3 ≤ 2 then some (m + 1 + 1 + 1 + 1) else if 3 = 3 then (if 3 ≤ m + 1 + 1 + 1 then some (m + 1 + 1 + 1 - 2) else none) else if 2 ≤ m + 1 + 1 + 1 then some (m + 1 + 1 + 1 - 1) else none) = some (m + 1)
    rw [if_neg (by omega), if_pos rfl, if_pos (by omega)]
    rfl
  · rw [Ex.lv_app, Ex.lv_app, Ex.lv_app]
    have h1 := K.l
    have h2 := L.l
    have h3 := M.l
    show q1 + (Ex.lv a + Ex.lv b + Ex.lv d + ((if 3 ≤ 2 then 1 else 0) + 0)) = q4
    rw [if_neg (by omega)]
    omega
  · rcases List.mem_append.1 hx with h | h
    · rcases List.mem_append.1 h with h | h
      · rcases List.mem_append.1 h with h | h
        · exact K.o x h
        · exact L.o x h
      · exact M.o x h
    · have e := List.mem_singleton.1 h
      have e1 : 2 = 3 := (Prod.mk.inj e).1
      omega
  · rcases List.mem_append.1 hz with h | h
    · rcases List.mem_append.1 h with h | h
      · rcases List.mem_append.1 h with h | h
        · exact K.c z h
        · exact L.c z h
      · exact M.c z h
    · have e := List.mem_singleton.1 h
      rw [e]; exact ⟨by show 3 < 1000; decide, by show 0 < 100000; decide⟩
theorem Ex.asks_mem : ∀ {e : Ex} {x : Nat}, (∀ y, (2, y) ∈ e → y < 32) → bt (Ex.asks e) x = true → (2, x) ∈ e
  | [], x, _, h => by rw [show Ex.asks [] = 0 from rfl, bt_zero] at h; exact absurd h (by decide)
  | (k, v) :: l, x, hy, h => by
    have h' : bt (if k = 2 then jshl 1 (I v) ||| Ex.asks l else Ex.asks l) x = true := h
    by_cases e : k = 2
    · subst e
      rw [if_pos rfl, bt_or, bt_1shl (hy v List.mem_cons_self)] at h'
      rcases (Bool.or_eq_true _ _).mp h' with h1 | h1
      · have := of_decide_eq_true h1
        rw [this]; exact List.mem_cons_self
      · exact List.mem_cons_of_mem _ (Ex.asks_mem (fun y hh => hy y (List.mem_cons_of_mem _ hh)) h1)
    · rw [if_neg e] at h'
      exact List.mem_cons_of_mem _ (Ex.asks_mem (fun y hh => hy y (List.mem_cons_of_mem _ hh)) h')
theorem exK.addR {p o q : Nat} {e : Ex} (K : exK A p e 0 q) (W : A.g.WF) (R : A.g.RL) (ht : A.g.tl p o) : (A.addR p o e).g.WF ∧ (A.addR p o e).g.RL := by
  have h32 : ∀ x, (2, x) ∈ e → x < 32 := fun x hx => (K.o x hx).1
  refine ⟨addR_WF W ht (fun x hx => K.o x (Ex.asks_mem h32 hx)), addR_RL R h32 (K.h 0) ?_⟩
  have := K.l
  have := K.m
  omega
end
