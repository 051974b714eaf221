/-! plain: sh1 -/
set_option maxRecDepth 100000
section
/-- what is known of shades: how many by symbols, which, in which round a circle came, whether there are too many, whether one is new. -/
def SSt : Type := (Nat → Nat) × (Nat → Nat → Int32) × Nat × Bool × Bool
def SSt.mn (t : SSt) : Nat → Nat := t.1
def SSt.sh (t : SSt) : Nat → Nat → Int32 := t.2.1
def SSt.cr (t : SSt) : Nat := t.2.2.1
def SSt.mu (t : SSt) : Bool := t.2.2.2.1
def SSt.nw (t : SSt) : Bool := t.2.2.2.2
def SSt.mk (mn : Nat → Nat) (sh : Nat → Nat → Int32) (cr : Nat) (mu nw : Bool) : SSt := (mn, sh, cr, mu, nw)
def SSt.keep (t : SSt) (s : Nat) (v : Int32) : SSt :=
  if (fstN (fun k => decide (t.sh s k = v)) (t.mn s)).isSome then t
  else if t.mn s = 12 then SSt.mk t.mn t.sh t.cr true true
  else SSt.mk (updN t.mn s (t.mn s + 1)) (updN t.sh s (updN (t.sh s) (t.mn s) v)) t.cr t.mu true
def SSt.crc (t : SSt) (r : Nat) (b : Bool) : SSt := if t.cr = 0 ∧ b = true then SSt.mk t.mn t.sh r t.mu t.nw else t

variable {G : Gv}
/-- rows of a production with shades of its children. -/
def Gv.shRow (G : Gv) (p : Nat) (f : Nat → Int32) : Nat → Int32 := fun o =>
  if 8 ≤ o ∧ G.oc p o ∧ G.ins (G.sy p (o / 8)) ≤ o % 8 then G.ask p o ||| jshl (jshr (f (o / 8)) (I (4 * (o % 8 - G.ins (G.sy p (o / 8))))) &&& 15) (I (8 * (o / 8))) else G.ask p o
def Gv.shOf (G : Gv) (s : Nat) (r : Nat → Int32) : Nat → Int32
  | 0 => 0
  | n + 1 => G.shOf s r n ||| jshl (r (G.ins s + n) &&& (jshl 1 (I (G.ins s)) - 1)) (I (4 * n))
def Gv.shBy (G : Gv) (p r : Nat) (f : Nat → Int32) (t : SSt) : SSt :=
  (t.crc r (fself (clo (G.shRow p f))).isSome).keep (G.sy p 0) (G.shOf (G.sy p 0) (clo (G.shRow p f)) (G.cnt (G.sy p 0) - G.ins (G.sy p 0)))
def itN {α : Type} (f : Nat → α → α) : Nat → α → α
  | 0, a => a
  | n + 1, a => f n (itN f n a)
def Gv.shCh (G : Gv) (p r : Nat) (ah : Nat → Nat) : Nat → Nat → (Nat → Nat) → SSt → SSt
  | 0, _, ch, t => G.shBy p r (fun a => t.sh (G.sy p a) (ch a)) t
  | d + 1, at_, ch, t => itN (fun k t' => G.shCh p r ah d (at_ + 1) (updN ch at_ k) t') (ah (G.sy p at_)) t
def Gv.shRd (G : Gv) (r : Nat) (t : SSt) : SSt :=
  itN (fun p t' => if (G.kn p = 0 ↔ r = 1) then G.shCh p r t.mn (G.kn p) 1 (fun _ => 0) t' else t') G.nP (SSt.mk t.mn t.sh t.cr t.mu false)
def Gv.shK (G : Gv) : Nat → SSt
  | 0 => SSt.mk (fun _ => 0) (fun _ _ => 0) 0 false false
  | k + 1 => G.shRd (k + 1) (G.shK k)
/-- whether rounds go on. -/
def SSt.on (t : SSt) (c : Bool) : Prop := t.nw = true ∧ t.mu = false ∧ (c = false ∨ t.cr = 0)
def Gv.IsShE (G : Gv) (c : Bool) (k : Nat) : Prop := 1 ≤ k ∧ ¬ (G.shK k).on c ∧ ∀ j, 1 ≤ j → j < k → (G.shK j).on c
theorem Gv.IsShE.uniq {c : Bool} {k k' : Nat} (h : G.IsShE c k) (h' : G.IsShE c k') : k = k' := by
  rcases Nat.lt_trichotomy k k' with l | e | l
  · exact absurd (h'.2.2 k h.1 l) h.2.1
  · exact e
  · exact absurd (h.2.2 k' h'.1 l) h'.2.1
noncomputable def Gv.shE (G : Gv) (c : Bool) : Nat := @dite _ (∃ k, G.IsShE c k) (Classical.propDecidable _) (fun h => h.choose) (fun _ => 0)
theorem Gv.shE_eq {c : Bool} {k : Nat} (h : G.IsShE c k) : G.shE c = k := by
  unfold Gv.shE
  have hx : ∃ k, G.IsShE c k := ⟨k, h⟩
  rw [dif_pos hx]
  exact hx.choose_spec.uniq h

/-- what goes up. -/
def SUp (t u : SSt) : Prop :=
  (∀ s, t.mn s ≤ u.mn s) ∧
  (∀ s k, k < t.mn s → u.sh s k = t.sh s k) ∧
  (t.mu = true → u.mu = true) ∧
  ((∀ s, t.mn s ≤ 12) → ∀ s, u.mn s ≤ 12) ∧
  (t.nw = true → u.nw = true) ∧
  (u.nw = true → u.mu = false → t.nw = true ∨ ∃ s, t.mn s < u.mn s)
theorem SUp.mn {t u : SSt} (h9 : SUp t u) : ∀ s, t.mn s ≤ u.mn s := h9.1
theorem SUp.sh {t u : SSt} (h9 : SUp t u) : ∀ s k, k < t.mn s → u.sh s k = t.sh s k := h9.2.1
theorem SUp.mu {t u : SSt} (h9 : SUp t u) : t.mu = true → u.mu = true := h9.2.2.1
theorem SUp.b {t u : SSt} (h9 : SUp t u) : (∀ s, t.mn s ≤ 12) → ∀ s, u.mn s ≤ 12 := h9.2.2.2.1
theorem SUp.nw {t u : SSt} (h9 : SUp t u) : t.nw = true → u.nw = true := h9.2.2.2.2.1
theorem SUp.up {t u : SSt} (h9 : SUp t u) : u.nw = true → u.mu = false → t.nw = true ∨ ∃ s, t.mn s < u.mn s := h9.2.2.2.2.2
theorem SUp.refl (t : SSt) : SUp t t := ⟨fun _ => Nat.le_refl _, fun _ _ _ => rfl, fun h => h, fun h => h, fun h => h, fun h _ => .inl h⟩
theorem SUp.trans {t u v : SSt} (h : SUp t u) (g : SUp u v) : SUp t v := by
  refine ⟨fun s => Nat.le_trans (h.mn s) (g.mn s), fun s k hk => (g.sh s k (Nat.lt_of_lt_of_le hk (h.mn s))).trans (h.sh s k hk), fun e => g.mu (h.mu e), fun e => g.b (h.b e), fun e => g.nw (h.nw e), fun e m => ?_⟩
  have m2 : u.mu = false := by
    cases hu : u.mu with
    | false => rfl
    | true => rw [g.mu hu] at m; exact absurd m (by simp)
  rcases g.up e m with h1 | ⟨s, h1⟩
  · rcases h.up h1 m2 with h2 | ⟨s, h2⟩
    · exact .inl h2
    · exact .inr ⟨s, Nat.lt_of_lt_of_le h2 (g.mn s)⟩
  · exact .inr ⟨s, Nat.lt_of_le_of_lt (h.mn s) h1⟩
theorem SSt.keep_up (t : SSt) (s : Nat) (v : Int32) : SUp t (t.keep s v) := by
  unfold SSt.keep
  by_cases h1 : (fstN (fun k => decide (t.sh s k = v)) (t.mn s)).isSome = true
  · rw [if_pos h1]; exact SUp.refl t
  rw [if_neg h1]
  by_cases h2 : t.mn s = 12
  · rw [if_pos h2]
    exact ⟨fun _ => Nat.le_refl _, fun _ _ _ => rfl, fun _ => rfl, fun h => h, fun _ => rfl, fun _ m => absurd (show true = false from m) (by simp)⟩
  rw [if_neg h2]
  have e1 : ∀ x, (updN t.mn s (t.mn s + 1)) x = if x = s then t.mn s + 1 else t.mn x := fun x => rfl
  refine ⟨fun x => ?_, fun x k hk => ?_, fun h => h, fun h x => ?_, fun _ => rfl, fun _ _ => .inr ⟨s, ?_⟩⟩
  · show t.mn x ≤ updN t.mn s (t.mn s + 1) x
    by_cases e : x = s
    · rw [e, updN_same]; omega
    · rw [updN_ne _ _ e]; exact Nat.le_refl _
  · show updN t.sh s (updN (t.sh s) (t.mn s) v) x k = t.sh x k
    by_cases e : x = s
    · subst e
      rw [updN_same, updN_ne _ _ (by omega)]
    · rw [updN_ne _ _ e]
  · show updN t.mn s (t.mn s + 1) x ≤ 12
    by_cases e : x = s
    · subst e
      rw [updN_same]
      have := h x
      omega
    · rw [updN_ne _ _ e]; exact h x
  · show t.mn s < updN t.mn s (t.mn s + 1) s
    rw [updN_same]; omega
theorem SSt.crc_up (t : SSt) (r : Nat) (b : Bool) : SUp t (t.crc r b) := by
  unfold SSt.crc
  split
  · exact ⟨fun _ => Nat.le_refl _, fun _ _ _ => rfl, fun h => h, fun h => h, fun h => h, fun h _ => .inl h⟩
  · exact SUp.refl t
theorem Gv.shBy_up (p r : Nat) (f : Nat → Int32) (t : SSt) : SUp t (G.shBy p r f t) := (t.crc_up r _).trans (SSt.keep_up _ _ _)
theorem itN_up {f : Nat → SSt → SSt} (h : ∀ k t, SUp t (f k t)) : ∀ n t, SUp t (itN f n t)
  | 0, t => SUp.refl t
  | n + 1, t => (itN_up h n t).trans (h n _)
theorem Gv.shCh_up (p r : Nat) (ah : Nat → Nat) : ∀ (d a : Nat) (ch : Nat → Nat) (t : SSt), SUp t (G.shCh p r ah d a ch t)
  | 0, _, _, t => Gv.shBy_up p r _ t
  | d + 1, a, ch, t => itN_up (fun k t' => Gv.shCh_up p r ah d (a + 1) (updN ch a k) t') _ t
theorem Gv.shRd_up (r : Nat) (t : SSt) : SUp (SSt.mk t.mn t.sh t.cr t.mu false) (G.shRd r t) := by
  unfold Gv.shRd
  refine itN_up (fun k t' => ?_) _ _
  split
  · exact Gv.shCh_up _ _ _ _ _ _ _
  · exact SUp.refl _
theorem Gv.shK_12 : ∀ k s, (G.shK k).mn s ≤ 12
  | 0, _ => Nat.zero_le _
  | k + 1, s => (Gv.shRd_up (G := G) (k + 1) (G.shK k)).b (fun s => Gv.shK_12 k s) s
/-- symbols that there are not have no shades. -/
theorem Gv.shK_big (W : G.WF) : ∀ k s, G.nS ≤ s → (G.shK k).mn s = 0
  | 0, _, _ => rfl
  | k + 1, s, hs => by
    have ih := Gv.shK_big W k s hs
    have kp : ∀ (t : SSt) (s' : Nat) (v : Int32), s' < G.nS → t.mn s = 0 → (t.keep s' v).mn s = 0 := by
      intro t s' v h1 h2
      unfold SSt.keep
      split
      · exact h2
      · split
        · exact h2
        · show updN t.mn s' (t.mn s' + 1) s = 0
          rw [updN_ne _ _ (by omega)]; exact h2
    have by_ : ∀ p, p < G.nP → ∀ r f (t : SSt), t.mn s = 0 → (G.shBy p r f t).mn s = 0 := by
      intro p hp r f t h
      refine kp _ _ _ (W.sy p 0 hp (Nat.zero_le _)) ?_
      unfold SSt.crc
      split
      · exact h
      · exact h
    have itk : ∀ (f : Nat → SSt → SSt), (∀ k t, t.mn s = 0 → (f k t).mn s = 0) → ∀ n t, t.mn s = 0 → (itN f n t).mn s = 0 := by
      intro f hf n
      induction n with
      | zero => intro t h; exact h
      | succ n ih => intro t h; exact hf n _ (ih t h)
    have ch : ∀ p, p < G.nP → ∀ r ah d a c (t : SSt), t.mn s = 0 → (G.shCh p r ah d a c t).mn s = 0 := by
      intro p hp r ah d
      induction d with
      | zero => intro a c t h; exact by_ p hp r _ t h
      | succ d ih => intro a c t h; exact itk _ (fun k t' h' => ih (a + 1) (updN c a k) t' h') _ t h
    have lp : ∀ n, n ≤ G.nP → (itN (fun p t' => if (G.kn p = 0 ↔ k + 1 = 1) then G.shCh p (k + 1) (G.shK k).mn (G.kn p) 1 (fun _ => 0) t' else t') n (SSt.mk (G.shK k).mn (G.shK k).sh (G.shK k).cr (G.shK k).mu false)).mn s = 0 := by
      intro n
      induction n with
      | zero => intro _; exact ih
      | succ n ihn =>
        intro h
        have := ihn (by omega)
        show (if (G.kn n = 0 ↔ k + 1 = 1) then _ else _ : SSt).mn s = 0
        split
        · exact ch n (by omega) _ _ _ _ _ _ this
        · exact this
    exact lp G.nP (Nat.le_refl _)
theorem sN_ltA {f g : Nat → Nat} {i : Nat} : ∀ {n : Nat}, i < n → (∀ k, f k ≤ g k) → f i < g i → sN f n < sN g n
  | 0, h, _, _ => absurd h (Nat.not_lt_zero _)
  | n + 1, h, hle, hlt => by
    have mono : ∀ m, sN f m ≤ sN g m := by
      intro m
      induction m with
      | zero => exact Nat.le_refl _
      | succ m ih => have := hle m; show sN f m + f m ≤ sN g m + g m; omega
    show sN f n + f n < sN g n + g n
    by_cases e : i = n
    · subst e
      have := mono i
      omega
    · have := sN_ltA (f := f) (g := g) (i := i) (n := n) (by omega) hle hlt
      have := hle n
      omega
theorem Gv.shE_ex (W : G.WF) (c : Bool) : ∃ k, k ≤ 97 ∧ G.IsShE c k := by
  -- each round that goes on brings one more
  have step : ∀ k, (G.shK (k + 1)).on c → sN (G.shK k).mn 8 < sN (G.shK (k + 1)).mn 8 := by
    intro k h
    have u := Gv.shRd_up (G := G) (k + 1) (G.shK k)
    rcases u.up h.1 h.2.1 with h1 | ⟨s, hs⟩
    · exact absurd (show false = true from h1) (by simp)
    · have hs8 : s < 8 := by
        rcases Nat.lt_or_ge s 8 with l | l
        · exact l
        · have h0 : (G.shK (k + 1)).mn s = 0 := Gv.shK_big W (k + 1) s (by have := W.nS; omega)
          have h1 : (G.shK k).mn s < (G.shK (k + 1)).mn s := hs
          omega
      exact sN_ltA hs8 (fun k => u.mn k) hs
  have up : ∀ k, (∀ j, 1 ≤ j → j ≤ k → (G.shK j).on c) → k ≤ sN (G.shK k).mn 8 := by
    intro k
    induction k with
    | zero => intro _; exact Nat.zero_le _
    | succ k ih =>
      intro h
      have h1 := ih (fun j a b => h j a (by omega))
      have h2 := step k (h (k + 1) (by omega) (Nat.le_refl _))
      omega
  have cap : ∀ k, sN (G.shK k).mn 8 ≤ 96 := by
    intro k
    have h := fun s => Gv.shK_12 (G := G) k s
    have h0 := h 0; have h1 := h 1; have h2 := h 2; have h3 := h 3; have h4 := h 4; have h5 := h 5; have h6 := h 6; have h7 := h 7
    show 0 + (G.shK k).mn 0 + (G.shK k).mn 1 + (G.shK k).mn 2 + (G.shK k).mn 3 + (G.shK k).mn 4 + (G.shK k).mn 5 + (G.shK k).mn 6 + (G.shK k).mn 7 ≤ 96
    omega
  have ex : ∃ k, 1 ≤ k ∧ k ≤ 97 ∧ ¬ (G.shK k).on c := by
    refine Classical.byContradiction (fun hn => ?_)
    have h1 := up 97 (fun j a b => Classical.byContradiction (fun h => hn ⟨j, a, b, h⟩))
    have h2 := cap 97
    omega
  -- the first of them
  have first : ∀ m, (∃ k, 1 ≤ k ∧ k ≤ m ∧ ¬ (G.shK k).on c) → ∃ k, k ≤ m ∧ G.IsShE c k := by
    intro m
    induction m with
    | zero => rintro ⟨k, a, b, _⟩; omega
    | succ m ih =>
      rintro ⟨k, a, b, h⟩
      by_cases hx : ∃ k, 1 ≤ k ∧ k ≤ m ∧ ¬ (G.shK k).on c
      · obtain ⟨k', h1, h2⟩ := ih hx
        exact ⟨k', by omega, h2⟩
      · have hk : k = m + 1 := by
          rcases Nat.lt_or_ge m k with l | l
          · omega
          · exact absurd ⟨k, a, l, h⟩ hx
        refine ⟨k, b, a, h, fun j h1 h2 => Classical.byContradiction (fun h3 => hx ⟨j, h1, by omega, h3⟩)⟩
  exact first 97 ex
end
