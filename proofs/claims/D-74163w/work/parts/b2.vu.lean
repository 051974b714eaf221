/-! plain: vu -/
set_option maxRecDepth 100000
section
variable {G : Gv} {ind : Nat → Int32} {p : Nat} {x : PSt}

/-- what hangs on nothing of its kind. -/
theorem min_of {E : Nat → Nat → Prop} {P : Nat → Prop} (hb : ∀ a b, E a b → b < 32) (hac : ∀ o, ¬ Trc E o o) : ∀ (n o : Nat), cnP (fun j => Trc E o j) 32 ≤ n → P o → ∃ m, P m ∧ ∀ y, E m y → ¬ P y
  | 0, o, hn, ho => by
    refine ⟨o, ho, fun y hy _ => ?_⟩
    have : cnP (fun _ => False) 32 < cnP (fun j => Trc E o j) 32 := cnP_lt (fun _ hh => hh.elim) (hb o y hy) id ⟨y, hy, Rch.refl y⟩
    omega
  | n + 1, o, hn, ho => by
    by_cases h : ∃ y, E o y ∧ P y
    · obtain ⟨y, hy, hp⟩ := h
      have : cnP (fun j => Trc E y j) 32 < cnP (fun j => Trc E o j) 32 := cnP_lt (fun j hj => by
        obtain ⟨w, h1, h2⟩ := hj
        exact ⟨y, hy, (Rch.one h1).trans h2⟩) (hb o y hy) (hac y) ⟨y, hy, Rch.refl y⟩
      exact min_of hb hac n y (by omega) hp
    · exact ⟨o, ho, fun y hy hp => h ⟨y, hy, hp⟩⟩
/-- how many codes of a kind a plan has. -/
def pcn (P : Int32 → Bool) (l : List Int32) : Nat := (l.filter P).length
theorem pcn_app (P : Int32 → Bool) (l : List Int32) (a : Int32) : pcn P (l ++ [a]) = pcn P l + if P a then 1 else 0 := by
  unfold pcn
  rw [List.filter_append, List.length_append]
  congr 1
  by_cases h : P a = true
  · rw [if_pos h, List.filter_cons_of_pos h]; rfl
  · rw [if_neg h, List.filter_cons_of_neg h]; rfl
def isMk (v : Int32) : Bool := decide (¬ v < 1000)
def isRl (v : Int32) : Bool := decide (v < 1000) && decide (¬ v < 100)
def isCh (c : Nat) (v : Int32) : Bool := decide (v < 100) && decide (v / 10 = I c)
/-- what a plan under way holds. -/
def Gv.PlJ (G : Gv) (ind : Nat → Int32) (p : Nat) (x : PSt) : Prop :=
  (∀ o, o < 8 → o < G.ins (G.sy p 0) → G.vo ind (G.sy p 0) o ≤ x.1 → bt x.2.1 o = true) ∧
  (∀ o, G.oc p o → 8 ≤ o → G.ins (G.sy p (o / 8)) ≤ o % 8 → G.vo ind (G.sy p (o / 8)) (o % 8) ≤ x.2.2.1 (o / 8) → bt x.2.1 o = true) ∧
  (pcn isRl x.2.2.2 = cnP (fun o => G.tl p o ∧ bt x.2.1 o = true) 32) ∧
  (∀ c, 1 ≤ c → c ≤ 3 → pcn (isCh c) x.2.2.2 = x.2.2.1 c) ∧
  (pcn isMk x.2.2.2 + 1 = x.1)
theorem Gv.PlJ.a {G : Gv} {ind : Nat → Int32} {p : Nat} {x : PSt} (h9 : Gv.PlJ G ind p x) : ∀ o, o < 8 → o < G.ins (G.sy p 0) → G.vo ind (G.sy p 0) o ≤ x.1 → bt x.2.1 o = true := h9.1
theorem Gv.PlJ.b {G : Gv} {ind : Nat → Int32} {p : Nat} {x : PSt} (h9 : Gv.PlJ G ind p x) : ∀ o, G.oc p o → 8 ≤ o → G.ins (G.sy p (o / 8)) ≤ o % 8 → G.vo ind (G.sy p (o / 8)) (o % 8) ≤ x.2.2.1 (o / 8) → bt x.2.1 o = true := h9.2.1
theorem Gv.PlJ.r {G : Gv} {ind : Nat → Int32} {p : Nat} {x : PSt} (h9 : Gv.PlJ G ind p x) : pcn isRl x.2.2.2 = cnP (fun o => G.tl p o ∧ bt x.2.1 o = true) 32 := h9.2.2.1
theorem Gv.PlJ.c {G : Gv} {ind : Nat → Int32} {p : Nat} {x : PSt} (h9 : Gv.PlJ G ind p x) : ∀ c, 1 ≤ c → c ≤ 3 → pcn (isCh c) x.2.2.2 = x.2.2.1 c := h9.2.2.2.1
theorem Gv.PlJ.m {G : Gv} {ind : Nat → Int32} {p : Nat} {x : PSt} (h9 : Gv.PlJ G ind p x) : pcn isMk x.2.2.2 + 1 = x.1 := h9.2.2.2.2
theorem bt_lt {a : Int32} {k : Nat} (h : bt a k = true) : k < 32 := Nat.lt_of_not_le (fun hh => by rw [bt_big a hh] at h; exact absurd h (by decide))
theorem Gv.rV_ask {o y : Nat} (hb : bt (G.ask p o) y = true) : bt (G.rV ind p o) y = true := by
  unfold Gv.rV
  rw [bt_or]
  have : bt (G.rI ind p o) y = true := by
    unfold Gv.rI Gv.addI
    split
    · rw [bt_or, hb]; rfl
    · exact hb
  rw [this]; rfl
theorem Gv.rV_hv {o y : Nat} (hy : y < 32) (ho : G.oc p o) (h1 : y / 8 = o / 8) (h2 : y % 8 < G.cnt (G.sy p (o / 8))) (h3 : G.hv ind (G.sy p (o / 8)) (o % 8) (y % 8)) : bt (G.rV ind p o) y = true := by
  unfold Gv.rV
  rw [bt_or, ofB_bt _ hy]
  have : decide (G.oc p o ∧ y / 8 = o / 8 ∧ y % 8 < G.cnt (G.sy p (o / 8)) ∧ G.hv ind (G.sy p (o / 8)) (o % 8) (y % 8)) = true := decide_eq_true ⟨ho, h1, h2, h3⟩
  rw [this]; simp
/-- where a plan can go no further in its last visit, all is done. -/
theorem Gv.pl_done (W : G.WF) (hp : p < G.nP) (hac : fself (clo (G.rV ind p)) = none) (hB : ∀ k, k ≤ G.kn p → G.VB ind (G.sy p k)) (J : G.PlJ ind p x) (N : G.PlI ind p x) (hv : G.vs ind (G.sy p 0) ≤ x.1) (h1 : G.nxR p x.2.1 = none) (h2 : G.nxC ind p x.2.1 x.2.2.1 = none) :
    (∀ o, G.oc p o → bt x.2.1 o = true) ∧ ∀ c, 1 ≤ c → c ≤ G.kn p → x.2.2.1 c = G.vs ind (G.sy p c) := by
  have hk3 := W.kn p hp
  have nR : ∀ o, o < 32 → G.tl p o → bt x.2.1 o = false → ¬ sub (G.ask p o) x.2.1 = true := fun o ho ht hb hs => by
    have := fstN_none.1 h1 o ho
    simp [ht, hb, hs] at this
  have nC : ∀ c, 1 ≤ c → c ≤ G.kn p → x.2.2.1 c ≠ G.vs ind (G.sy p c) → ¬ sub (G.inV ind p c (x.2.2.1 c + 1)) x.2.1 = true := fun c hc1 hc2 hw hs => by
    have := fstN_none.1 h2 c (by omega)
    simp [hc1, hw, hs] at this
  have all : ∀ o, G.oc p o → bt x.2.1 o = true := by
    intro o ho
    cases hb : bt x.2.1 o with
    | true => rfl
    | false =>
      exfalso
      have hE : ∀ q, ¬ Trc (Rw (G.rV ind p)) q q := fun q hq => by
        obtain ⟨c, e, r⟩ := hq
        have hq32 := e.1
        have := fstN_none.1 hac q hq32
        rw [(clo_bt _ hq32).2 ⟨c, e, r⟩] at this
        exact absurd this (by decide)
      obtain ⟨m, ⟨hm1, hm2⟩, hm3⟩ := min_of (E := Rw (G.rV ind p)) (P := fun o => G.oc p o ∧ bt x.2.1 o = false) (fun a b hh => hh.lt) hE 32 o (cnP_le _ _) ⟨ho, hb⟩
      have kn : ∀ y, bt (G.rV ind p m) y = true → G.oc p y → bt x.2.1 y = true := fun y hy hyo => by
        cases hyb : bt x.2.1 y with
        | true => rfl
        | false => exact absurd ⟨hyo, hyb⟩ (hm3 y ⟨hm1.1, hy⟩)
      by_cases ht : G.tl p m
      · refine nR m hm1.1 ht hm2 (sub_iff.2 (fun y hy => kn y (Gv.rV_ask hy) ?_))
        unfold Gv.ask at hy
        cases hr : G.rl p m with
        | none => rw [hr] at hy; rw [bt_zero] at hy; exact absurd hy (by decide)
        | some e => rw [hr] at hy; exact W.rb p m e y hp hr hy
      · have ho3 := hm1.2.2
        by_cases h8 : m < 8
        · have hin : m < G.ins (G.sy p 0) := by
            have e0 : m / 8 = 0 := by omega
            have e1 : m % 8 = m := by omega
            refine Nat.lt_of_not_le (fun hle => ht ⟨hm1, ?_⟩)
            rw [e0, e1]
            exact ⟨fun _ => h8, fun _ => hle⟩
          have hc : m < G.cnt (G.sy p 0) := by
            have := W.ic _ (W.sy p 0 hp (Nat.zero_le _))
            omega
          have := (hB 0 (Nat.zero_le _)).vo9 m hc
          rw [J.a m h8 hin (by omega)] at hm2
          exact absurd hm2 (by decide)
        · have hout : G.ins (G.sy p (m / 8)) ≤ m % 8 := by
            refine Nat.le_of_not_lt (fun hlt => ht ⟨hm1, ?_⟩)
            exact ⟨fun hh => by omega, fun hh => by omega⟩
          by_cases hw : G.vo ind (G.sy p (m / 8)) (m % 8) ≤ x.2.2.1 (m / 8)
          · rw [J.b m hm1 (by omega) hout hw] at hm2
            exact absurd hm2 (by decide)
          · have hvo := (hB (m / 8) hm1.2.1).vo9 (m % 8) ho3
            refine nC (m / 8) (by omega) hm1.2.1 (by omega) (sub_iff.2 (fun y hy => ?_))
            have hy32 := bt_lt hy
            unfold Gv.inV at hy
            rw [ofB_bt _ hy32, decide_eq_true_iff] at hy
            obtain ⟨y1, y2, y3⟩ := hy
            have hcy : y % 8 < G.cnt (G.sy p (m / 8)) := by
              have := W.ic _ (W.sy p (m / 8) hp hm1.2.1)
              omega
            refine kn y (Gv.rV_hv hy32 hm1 y1 hcy ?_) ⟨hy32, by rw [y1]; exact hm1.2.1, by rw [y1]; exact hcy⟩
            by_cases e : G.vo ind (G.sy p (m / 8)) (y % 8) < G.vo ind (G.sy p (m / 8)) (m % 8)
            · exact .inl e
            · exact .inr ⟨by omega, hout, y2⟩
  refine ⟨all, fun c hc1 hc2 => ?_⟩
  by_cases hw : x.2.2.1 c = G.vs ind (G.sy p c)
  · exact hw
  · exfalso
    refine nC c hc1 hc2 hw (sub_iff.2 (fun y hy => ?_))
    have hy32 := bt_lt hy
    unfold Gv.inV at hy
    rw [ofB_bt _ hy32, decide_eq_true_iff] at hy
    obtain ⟨y1, y2, y3⟩ := hy
    refine all y ⟨hy32, by rw [y1]; exact hc2, ?_⟩
    rw [y1]
    have := W.ic _ (W.sy p c hp hc2)
    omega
theorem isMk_t {v : Int32} (h : ¬ v < 1000) : isMk v = true := decide_eq_true h
theorem isMk_f {v : Int32} (h : v < 1000) : isMk v = false := decide_eq_false (fun hh => hh h)
theorem isRl_f1 {v : Int32} (h : ¬ v < 1000) : isRl v = false := by unfold isRl; rw [decide_eq_false h]; rfl
theorem isRl_f2 {v : Int32} (h : v < 100) : isRl v = false := by unfold isRl; rw [decide_eq_false (fun hh : ¬ v < 100 => hh h), Bool.and_false]
theorem isRl_t {v : Int32} (h1 : v < 1000) (h2 : ¬ v < 100) : isRl v = true := by unfold isRl; rw [decide_eq_true h1, decide_eq_true h2]; rfl
theorem isCh_f {c : Nat} {v : Int32} (h : ¬ v < 100) : isCh c v = false := by unfold isCh; rw [decide_eq_false h]; rfl
theorem cd_m {v : Nat} (hv : v < 100) : isMk (I (1000 + v)) = true ∧ isRl (I (1000 + v)) = false ∧ ∀ c, isCh c (I (1000 + v)) = false := by
  have h1 : ¬ I (1000 + v) < 1000 := fun hh => by have := (I_lt (a := 1000 + v) (b := 1000) (by omega) (by decide)).1 hh; omega
  have h2 : ¬ I (1000 + v) < 100 := fun hh => by have := (I_lt (a := 1000 + v) (b := 100) (by omega) (by decide)).1 hh; omega
  exact ⟨isMk_t h1, isRl_f1 h1, fun c => isCh_f h2⟩
theorem cd_r {v : Nat} (hv : v < 100) : isMk (I (100 + v)) = false ∧ isRl (I (100 + v)) = true ∧ ∀ c, isCh c (I (100 + v)) = false := by
  have h1 : I (100 + v) < 1000 := (I_lt (a := 100 + v) (b := 1000) (by omega) (by decide)).2 (by omega)
  have h2 : ¬ I (100 + v) < 100 := fun hh => by have := (I_lt (a := 100 + v) (b := 100) (by omega) (by decide)).1 hh; omega
  exact ⟨isMk_f h1, isRl_t h1 h2, fun c => isCh_f h2⟩
theorem cd_c {c v : Nat} (hc : c ≤ 3) (hv : v < 10) : isMk (I (10 * c + v)) = false ∧ isRl (I (10 * c + v)) = false ∧ ∀ c', c' ≤ 3 → (isCh c' (I (10 * c + v)) = true ↔ c' = c) := by
  have h1 : I (10 * c + v) < 1000 := (I_lt (a := 10 * c + v) (b := 1000) (by omega) (by decide)).2 (by omega)
  have h2 : I (10 * c + v) < 100 := (I_lt (a := 10 * c + v) (b := 100) (by omega) (by decide)).2 (by omega)
  have h3 : (I (10 * c + v) / 10 : Int32) = I c := by
    have : (I (10 * c + v) / 10 : Int32) = I ((10 * c + v) / 10) := by (first | omega | ((try simp (disch := omega) only [L_le, le_L, L_lt, lt_L, eq_L, L_eq, I_le, I_lt, I_eq, I_ni, add_L, L_add, I_add, mul_L, L_mul, I_mul, sub_L, L_sub, I_sub, div_L, rem_L]); done) | ((try simp (disch := omega) only [L_le, le_L, L_lt, lt_L, eq_L, L_eq, I_le, I_lt, I_eq, I_ni, add_L, L_add, I_add, mul_L, L_mul, I_mul, sub_L, L_sub, I_sub, div_L, rem_L]); omega))
    rw [this, show (10 * c + v) / 10 = c by omega]
  refine ⟨isMk_f h1, isRl_f2 h2, fun c' hc' => ?_⟩
  unfold isCh
  rw [Bool.and_eq_true, decide_eq_true_iff, decide_eq_true_iff, h3]
  exact ⟨fun hh => ((I_eq (by omega) (by omega)).1 hh.2).symm, fun hh => ⟨h2, by rw [hh]⟩⟩
theorem Gv.PlJ0 (W : G.WF) (hp : p < G.nP) (hB : ∀ k, k ≤ G.kn p → G.VB ind (G.sy p k)) : G.PlJ ind p (G.pl0 ind p) := by
  have hic := W.ic _ (W.sy p 0 hp (Nat.zero_le _))
  refine ⟨fun o h8 hin hv => ?_, fun o ho h8 hout hv => ?_, ?_, fun c _ _ => rfl, rfl⟩
  · show bt (G.inV ind p 0 1) o = true
    unfold Gv.inV
    rw [ofB_bt _ (by omega), decide_eq_true_iff]
    have e1 : o % 8 = o := by omega
    have hv' : G.vo ind (G.sy p 0) o ≤ 1 := hv
    have := (hB 0 (Nat.zero_le _)).vo1 o (by omega)
    exact ⟨by omega, by rw [e1]; exact hin, by rw [e1]; omega⟩
  · have hv' : G.vo ind (G.sy p (o / 8)) (o % 8) ≤ 0 := hv
    have := (hB (o / 8) ho.2.1).vo1 (o % 8) ho.2.2
    omega
  · show 0 = cnP (fun o => G.tl p o ∧ bt (G.inV ind p 0 1) o = true) 32
    refine (cnP_none (fun o ho hh => ?_)).symm
    have hb := hh.2
    unfold Gv.inV at hb
    rw [ofB_bt _ ho, decide_eq_true_iff] at hb
    obtain ⟨b1, b2, _⟩ := hb
    have := hh.1.2
    rw [b1] at this
    omega
theorem Gv.PlJS (W : G.WF) (hp : p < G.nP) (hB : ∀ k, k ≤ G.kn p → G.VB ind (G.sy p k)) (N : G.PlI ind p x) (J : G.PlJ ind p x) (hv : x.1 ≤ G.vs ind (G.sy p 0)) : G.PlJ ind p (G.plS ind p x) := by
  have hk3 := W.kn p hp
  have v9 := (hB 0 (Nat.zero_le _)).vs9
  unfold Gv.plS
  split
  · obtain ⟨m1, m2, m3⟩ := cd_m (v := x.1) (by omega)
    refine ⟨fun o h8 hin hvo => ?_, fun o ho h8 hout hvo => ?_, ?_, fun c h1 h2 => ?_, ?_⟩
    · show bt (x.2.1 ||| G.inV ind p 0 (x.1 + 1)) o = true
      rw [bt_or]
      by_cases hl : G.vo ind (G.sy p 0) o ≤ x.1
      · rw [J.a o h8 hin hl]; rfl
      · have : bt (G.inV ind p 0 (x.1 + 1)) o = true := by
          unfold Gv.inV
          rw [ofB_bt _ (by omega), decide_eq_true_iff]
          have e1 : o % 8 = o := by omega
          have hv' : G.vo ind (G.sy p 0) o ≤ x.1 + 1 := hvo
          exact ⟨by omega, by rw [e1]; exact hin, by rw [e1]; omega⟩
        rw [this]; simp
    · show bt (x.2.1 ||| G.inV ind p 0 (x.1 + 1)) o = true
      rw [bt_or, J.b o ho h8 hout hvo]; rfl
    · show pcn isRl (x.2.2.2 ++ [I (1000 + x.1)]) = cnP (fun o => G.tl p o ∧ bt (x.2.1 ||| G.inV ind p 0 (x.1 + 1)) o = true) 32
      rw [pcn_app, m2, J.r]
      refine cnP_congr (fun o ho => ?_)
      rw [bt_or]
      constructor
      · rintro ⟨h1, h2⟩; exact ⟨h1, by rw [h2]; rfl⟩
      · rintro ⟨h1, h2⟩
        refine ⟨h1, ?_⟩
        rw [Bool.or_eq_true] at h2
        rcases h2 with h2 | h2
        · exact h2
        · unfold Gv.inV at h2
          rw [ofB_bt _ ho, decide_eq_true_iff] at h2
          obtain ⟨b1, b2, _⟩ := h2
          have := h1.2
          rw [b1] at this
          omega
    · show pcn (isCh c) (x.2.2.2 ++ [I (1000 + x.1)]) = x.2.2.1 c
      rw [pcn_app, m3 c]; exact J.c c h1 h2
    · show pcn isMk (x.2.2.2 ++ [I (1000 + x.1)]) + 1 = x.1 + 1
      rw [pcn_app, m1]
      have := J.m
      simp only [if_true]
      omega
  · cases hR : G.nxR p x.2.1 with
    | some o0 =>
      obtain ⟨ho0, ⟨t1, t2, t3⟩, _⟩ := Gv.nxR_iff.1 hR
      obtain ⟨m1, m2, m3⟩ := cd_r (v := o0) (by omega)
      refine ⟨fun o h8 hin hvo => ?_, fun o ho h8 hout hvo => ?_, ?_, fun c h1 h2 => ?_, ?_⟩
      · show bt (x.2.1 ||| jshl 1 (I o0)) o = true
        rw [bt_or, J.a o h8 hin hvo]; rfl
      · show bt (x.2.1 ||| jshl 1 (I o0)) o = true
        rw [bt_or, J.b o ho h8 hout hvo]; rfl
      · show pcn isRl (x.2.2.2 ++ [I (100 + o0)]) = cnP (fun o => G.tl p o ∧ bt (x.2.1 ||| jshl 1 (I o0)) o = true) 32
        rw [pcn_app, m2, J.r, if_pos rfl, ← cnP_add (P := fun o => G.tl p o ∧ bt x.2.1 o = true) ho0 (fun hh => by rw [t2] at hh; exact absurd hh.2 (by decide))]
        refine cnP_congr (fun o ho => ?_)
        rw [bt_or, bt_1shl ho0]
        constructor
        · rintro (⟨h1, h2⟩ | e)
          · exact ⟨h1, by rw [h2]; rfl⟩
          · rw [e]; exact ⟨t1, by simp⟩
        · rintro ⟨h1, h2⟩
          rw [Bool.or_eq_true] at h2
          rcases h2 with h2 | h2
          · exact .inl ⟨h1, h2⟩
          · exact .inr (by simpa using h2)
      · show pcn (isCh c) (x.2.2.2 ++ [I (100 + o0)]) = x.2.2.1 c
        rw [pcn_app, m3 c]; exact J.c c h1 h2
      · show pcn isMk (x.2.2.2 ++ [I (100 + o0)]) + 1 = x.1
        rw [pcn_app, m1]; exact J.m
    | none =>
      dsimp only
      cases hC : G.nxC ind p x.2.1 x.2.2.1 with
      | none => exact J
      | some c0 =>
        obtain ⟨c1, c2, c3, c4⟩ := Gv.nxC_some hC
        have hw := N.wt c0 c1 c2
        have hw9 := (hB c0 c2).vs9
        obtain ⟨m1, m2, m3⟩ := cd_c (c := c0) (v := x.2.2.1 c0 + 1) (by omega) (by
          have hw' : x.2.2.1 c0 ≤ G.vs ind (G.sy p c0) := hw
          omega)
        refine ⟨fun o h8 hin hvo => ?_, fun o ho h8 hout hvo => ?_, ?_, fun c h1 h2 => ?_, ?_⟩
        · show bt (x.2.1 ||| G.ouV ind p c0 (x.2.2.1 c0 + 1)) o = true
          rw [bt_or, J.a o h8 hin hvo]; rfl
        · show bt (x.2.1 ||| G.ouV ind p c0 (x.2.2.1 c0 + 1)) o = true
          rw [bt_or]
          have hvo' : G.vo ind (G.sy p (o / 8)) (o % 8) ≤ updN x.2.2.1 c0 (x.2.2.1 c0 + 1) (o / 8) := hvo
          by_cases ec : o / 8 = c0
          · rw [ec, updN_same] at hvo'
            by_cases hl : G.vo ind (G.sy p c0) (o % 8) ≤ x.2.2.1 c0
            · rw [J.b o ho h8 hout (by rw [ec]; exact hl)]; rfl
            · have : bt (G.ouV ind p c0 (x.2.2.1 c0 + 1)) o = true := by
                unfold Gv.ouV
                rw [ofB_bt _ ho.1, decide_eq_true_iff]
                have h3 := ho.2.2
                rw [ec] at hout h3
                exact ⟨ec, hout, h3, by omega⟩
              rw [this]; simp
          · rw [updN_ne _ _ ec] at hvo'
            rw [J.b o ho h8 hout hvo']; rfl
        · show pcn isRl (x.2.2.2 ++ [I (10 * c0 + (x.2.2.1 c0 + 1))]) = cnP (fun o => G.tl p o ∧ bt (x.2.1 ||| G.ouV ind p c0 (x.2.2.1 c0 + 1)) o = true) 32
          rw [pcn_app, m2, J.r]
          refine cnP_congr (fun o ho => ?_)
          rw [bt_or]
          constructor
          · rintro ⟨h1, h2⟩; exact ⟨h1, by rw [h2]; rfl⟩
          · rintro ⟨h1, h2⟩
            refine ⟨h1, ?_⟩
            rw [Bool.or_eq_true] at h2
            rcases h2 with h2 | h2
            · exact h2
            · unfold Gv.ouV at h2
              rw [ofB_bt _ ho, decide_eq_true_iff] at h2
              obtain ⟨b1, b2, _⟩ := h2
              have := h1.2
              rw [b1] at this
              omega
        · show pcn (isCh c) (x.2.2.2 ++ [I (10 * c0 + (x.2.2.1 c0 + 1))]) = updN x.2.2.1 c0 (x.2.2.1 c0 + 1) c
          rw [pcn_app, J.c c h1 h2]
          by_cases ec : c = c0
          · rw [if_pos ((m3 c h2).2 ec), ec, updN_same]
          · rw [if_neg (fun hh => ec ((m3 c h2).1 hh)), updN_ne _ _ ec]; rfl
        · show pcn isMk (x.2.2.2 ++ [I (10 * c0 + (x.2.2.1 c0 + 1))]) + 1 = x.1
          rw [pcn_app, m1]; exact J.m
theorem Gv.PlI00 (hB : ∀ k, k ≤ G.kn p → G.VB ind (G.sy p k)) : G.PlI ind p (G.pl0 ind p) := by
  have := (hB 0 (Nat.zero_le _)).vs1
  exact ⟨Nat.le_refl _, fun c _ _ => Nat.zero_le _, fun _ _ => rfl, by show 1 ≤ _; omega, rfl⟩
theorem Gv.plK_IJ (W : G.WF) (hp : p < G.nP) (hB : ∀ k, k ≤ G.kn p → G.VB ind (G.sy p k)) : ∀ k, (∀ j, j < k → (G.plK ind p j).1 ≤ G.vs ind (G.sy p 0)) → G.PlI ind p (G.plK ind p k) ∧ G.PlJ ind p (G.plK ind p k)
  | 0, _ => ⟨Gv.PlI00 hB, Gv.PlJ0 W hp hB⟩
  | k + 1, h => by
    obtain ⟨a, b⟩ := Gv.plK_IJ W hp hB k (fun j hj => h j (by omega))
    have hv := h k (by omega)
    exact ⟨(Gv.plS_inv W hp a hv).1, Gv.PlJS W hp hB a b hv⟩
/-- a plan has all: each rule once, each child's visits, the own visits. -/
theorem Gv.IsPl.all (W : G.WF) (hp : p < G.nP) (hac : fself (clo (G.rV ind p)) = none) (hB : ∀ k, k ≤ G.kn p → G.VB ind (G.sy p k)) (h : G.IsPl ind p x) :
    pcn isRl x.2.2.2 = cnP (fun o => G.tl p o) 32 ∧ (∀ c, 1 ≤ c → c ≤ G.kn p → pcn (isCh c) x.2.2.2 = G.vs ind (G.sy p c)) ∧ pcn isMk x.2.2.2 = G.vs ind (G.sy p 0) ∧ ∃ l, x.2.2.2 = l ++ [I (1000 + G.vs ind (G.sy p 0))] := by
  have hk3 := W.kn p hp
  have v1 := (hB 0 (Nat.zero_le _)).vs1
  obtain ⟨k, rfl, h1, h2⟩ := h
  obtain ⟨N, J⟩ := Gv.plK_IJ W hp hB k h2
  cases k with
  | zero =>
    have e : (G.plK ind p 0).1 = 1 := rfl
    have h1' : G.vs ind (G.sy p 0) < (G.plK ind p 0).1 := h1
    omega
  | succ k =>
    have hv := h2 k (by omega)
    obtain ⟨N0, J0⟩ := Gv.plK_IJ W hp hB k (fun j hj => h2 j (by omega))
    have hv' : (G.plK ind p k).1 ≤ G.vs ind (G.sy p 0) := hv
    have eS : G.plK ind p (k + 1) = G.plS ind p (G.plK ind p k) := rfl
    have h1' : G.vs ind (G.sy p 0) < (G.plS ind p (G.plK ind p k)).1 := h1
    generalize G.plK ind p k = y at *
    rw [eS] at J ⊢
    have key : G.nxR p y.2.1 = none ∧ G.nxC ind p y.2.1 y.2.2.1 = none ∧ y.1 = G.vs ind (G.sy p 0) ∧ G.plS ind p y = ⟨y.1 + 1, y.2.1 ||| G.inV ind p 0 (y.1 + 1), y.2.2.1, y.2.2.2 ++ [I (1000 + y.1)]⟩ := by
      unfold Gv.plS at h1' ⊢
      split at h1'
      · rename_i hc
        rw [if_pos hc]
        have e1 : y.1 = G.vs ind (G.sy p 0) := by
          have : G.vs ind (G.sy p 0) < y.1 + 1 := h1'
          omega
        rcases hc with hc | hc
        · have : y.1 < G.vs ind (G.sy p 0) := hc.1
          omega
        · exact ⟨hc.1, hc.2, e1, rfl⟩
      · exfalso
        split at h1'
        · have : G.vs ind (G.sy p 0) < y.1 := h1'
          omega
        · split at h1'
          · have : G.vs ind (G.sy p 0) < y.1 := h1'
            omega
          · have : G.vs ind (G.sy p 0) < y.1 := h1'
            omega
    obtain ⟨k1, k2, k3, k4⟩ := key
    obtain ⟨d1, d2⟩ := Gv.pl_done W hp hac hB J0 N0 (by omega) k1 k2
    rw [k4] at J ⊢
    refine ⟨?_, fun c h1 h2 => ?_, ?_, y.2.2.2, ?_⟩
    · rw [J.r]
      refine cnP_congr (fun o ho => ⟨fun hh => hh.1, fun hh => ⟨hh, ?_⟩⟩)
      show bt (y.2.1 ||| G.inV ind p 0 (y.1 + 1)) o = true
      rw [bt_or, d1 o hh.1]; rfl
    · rw [J.c c h1 (by omega)]; exact d2 c h1 h2
    · have := J.m
      have e : pcn isMk (y.2.2.2 ++ [I (1000 + y.1)]) + 1 = y.1 + 1 := this
      show pcn isMk (y.2.2.2 ++ [I (1000 + y.1)]) = _
      omega
    · show y.2.2.2 ++ [I (1000 + y.1)] = _
      rw [k3]
end
