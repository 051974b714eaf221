/-! plain: k3 -/
set_option maxRecDepth 100000
section
variable {h : AH} {s v : Nat} {w : List Nat}

/-- a string that grows. -/
def SbR (c : HC) (s v : Nat) (w : List Nat) : Prop :=
  ((c.kd s).1 = 21) ∧
  (s < c.sz) ∧
  (c.fr 2100 s = some v) ∧
  (c.kd v = (41, 16)) ∧
  (v < c.sz) ∧
  (c.lo ≤ v) ∧
  (∀ i, i < w.length → c.ai v i = I (w.getD i 0)) ∧
  (c.fi 2101 s = 0) ∧
  (c.fi 2103 s = I w.length) ∧
  (w.length ≤ 8) ∧
  (∀ x, x ∈ w → x < 128)
theorem SbR.k {c : HC} {s v : Nat} {w : List Nat} (h9 : SbR c s v w) : (c.kd s).1 = 21 := h9.1
theorem SbR.l {c : HC} {s v : Nat} {w : List Nat} (h9 : SbR c s v w) : s < c.sz := h9.2.1
theorem SbR.vr {c : HC} {s v : Nat} {w : List Nat} (h9 : SbR c s v w) : c.fr 2100 s = some v := h9.2.2.1
theorem SbR.vk {c : HC} {s v : Nat} {w : List Nat} (h9 : SbR c s v w) : c.kd v = (41, 16) := h9.2.2.2.1
theorem SbR.vl {c : HC} {s v : Nat} {w : List Nat} (h9 : SbR c s v w) : v < c.sz := h9.2.2.2.2.1
theorem SbR.vb {c : HC} {s v : Nat} {w : List Nat} (h9 : SbR c s v w) : c.lo ≤ v := h9.2.2.2.2.2.1
theorem SbR.vv {c : HC} {s v : Nat} {w : List Nat} (h9 : SbR c s v w) : ∀ i, i < w.length → c.ai v i = I (w.getD i 0) := h9.2.2.2.2.2.2.1
theorem SbR.co {c : HC} {s v : Nat} {w : List Nat} (h9 : SbR c s v w) : c.fi 2101 s = 0 := h9.2.2.2.2.2.2.2.1
theorem SbR.n {c : HC} {s v : Nat} {w : List Nat} (h9 : SbR c s v w) : c.fi 2103 s = I w.length := h9.2.2.2.2.2.2.2.2.1
theorem SbR.wl {c : HC} {s v : Nat} {w : List Nat} (h9 : SbR c s v w) : w.length ≤ 8 := h9.2.2.2.2.2.2.2.2.2.1
theorem SbR.b8 {c : HC} {s v : Nat} {w : List Nat} (h9 : SbR c s v w) : ∀ x, x ∈ w → x < 128 := h9.2.2.2.2.2.2.2.2.2.2
theorem SbR.keep {W : Nat → Nat → Prop} {c c' : HC} (S : SbR c s v w) (F : Fr W c c') (h1 : ¬ W 2100 s) (h2 : ¬ W 2101 s) (h3 : ¬ W 2103 s) (h4 : ¬ W 0 v) : SbR c' s v w :=
  ⟨by rw [F.kd s S.l]; exact S.k, Nat.lt_of_lt_of_le S.l F.sz, by rw [F.fr 2100 s S.l h1]; exact S.vr, by rw [F.kd v S.vl]; exact S.vk, Nat.lt_of_lt_of_le S.vl F.sz, by have := S.vb; unfold HC.lo at *; rw [F.bs]; exact this, by rw [F.ai v S.vl h4]; exact S.vv, by rw [F.fi 2101 s S.l h2]; exact S.co, by rw [F.fi 2103 s S.l h3]; exact S.n, S.wl, S.b8⟩
def WSb (s v : Nat) : Nat → Nat → Prop := fun f a => (f = 2103 ∧ a = s) ∨ (f = 0 ∧ a = v)
def WS0 (s : Nat) : Nat → Nat → Prop := fun f a => (f = 2100 ∨ f = 2101) ∧ a = s

theorem pc_sbInit (hk : (h.kd s).1 = 21) (hl : s < h.sz) (hlo : h.lo ≤ h.sz) (hn : h.fi 2103 s = 0) (hr : 1 ≤ h.rc) (hs : 16 ≤ h.rs) {Q : AH → Prop} (hQ : ∀ h', Fr (WS0 s) h.c h'.c → SbR h'.c s h.sz [] → h'.sz = h.sz + 1 → h'.rc = h.rc - 1 → h'.rs = h.rs - 16 → Q h') : wp_J1_init s h Q := by
  unfold wp_J1_init
  refine ⟨1, 16, ⟨hr, hs⟩, ?_⟩
  unfold wp_J0_init
  refine ⟨⟨by decide, by decide, Nat.le_refl _, Nat.le_refl _⟩, ?_⟩
  intro h1 e1
  have e1' : h1 = (h.srm 1 16).new 41 16 16 := e1
  have szs : (h.srm 1 16).sz = h.sz := rfl
  have hne : s ≠ h.sz := by omega
  refine ⟨nn_of rfl (by rw [e1', new_kd, szs, if_neg hne]; exact hk), ?_⟩
  intro h3 e3 h4 e4 h5 e5
  have F5 : Fr (WS0 s) h.c h5.c := by
    rw [e5]
    show Fr (WS0 s) h.c h4.c
    rw [e4]
    refine Fr.sfi ?_ _ (fun _ => ⟨.inr rfl, rfl⟩)
    rw [e3]
    refine Fr.sfr ?_ _ (fun _ => ⟨.inl rfl, rfl⟩)
    rw [e1']
    exact Fr.new (h := h.srm 1 16) (Fr.refl _) _ _ _
  refine hQ h5 F5 ⟨?_, ?_, ?_, ?_, ?_, ?_, ?_, ?_, ?_, Nat.zero_le _, fun x hx => absurd hx (by simp)⟩ ?_ ?_ ?_
  · rw [F5.kd s hl]; exact hk
  · exact Nat.lt_of_lt_of_le hl F5.sz
  · rw [e5]; show h4.fr 2100 s = _; rw [e4]; show h3.fr 2100 s = _; rw [e3, sfr_same]; rfl
  · rw [e5]; show h4.kd h.sz = _; rw [e4]; show h3.kd h.sz = _; rw [e3]; show h1.kd h.sz = _; rw [e1', new_kd, szs, if_pos rfl]
  · rw [e5]; show h.sz < h4.sz; rw [e4]; show h.sz < h3.sz; rw [e3]; show h.sz < h1.sz; rw [e1', new_sz, szs]; omega
  · have : h5.c.lo = h.lo := by unfold HC.lo; rw [F5.bs]; rfl
    rw [this]; exact hlo
  · intro i hi; exact absurd hi (by simp)
  · rw [e5]; show h4.fi 2101 s = _; rw [e4, sfi_same]
  · rw [F5.fi 2103 s hl (by unfold WS0; omega)]; exact hn
  · rw [e5]; show h4.sz = _; rw [e4]; show h3.sz = _; rw [e3]; show h1.sz = _; rw [e1', new_sz]; rfl
  · rw [e5]; rfl
  · rw [e5]; rfl

theorem pc_append (S : SbR h.c s v w) (hw : w.length < 8) {b : Nat} (hb : b < 128) {Q : Option Nat → AH → Prop} (hQ : ∀ h', Fr (WSb s v) h.c h'.c → SbR h'.c s v (w ++ [b]) → h'.sz = h.sz → h'.rc = h.rc → h'.rs = h.rs → Q (some s) h') : wp_J1_append s (I b) h Q := by
  have k1 : h.kd v = (41, 16) := S.vk
  have vr : h.fr 2100 s = some v := S.vr
  have co : h.fi 2101 s = 0 := S.co
  have n : h.fi 2103 s = I w.length := S.n
  unfold wp_J1_append
  refine ⟨nn_of rfl S.k, 0, 0, ⟨Nat.zero_le _, Nat.zero_le _⟩, ?_⟩
  unfold wp_J0_append
  refine ⟨nn_of rfl S.k, 0, 0, ⟨Nat.zero_le _, Nat.zero_le _⟩, ?_⟩
  dsimp only
  unfold wp_J0_ensureCapacityInternal
  rw [show (((h.srm 0 0).srm 0 0).fr 2100 s) = some v from vr, show (((h.srm 0 0).srm 0 0).fi 2101 s) = 0 from co, show ((h.srm 0 0).fi 2103 s) = I w.length from n]
  have kd1 : ((h.srm 0 0).srm 0 0).kd v = (41, 16) := k1
  refine ⟨nn_of rfl S.k, nn_of rfl (by rw [kd1]), ?_⟩
  rw [adr_some, kd1]
  have ec : (I w.length + 1) - (jshr (nI 16) 0) ≤ 0 := by
    rw [show jshr (nI 16) 0 = I 16 by decide, show I w.length + 1 = I (w.length + 1) from I_add _ 1]
    exact (I_df (m := w.length + 1) (s := 16) (by omega) (by omega)).1.2 (by omega)
  refine brT ec ?_
  intro h4 e4
  have e4' : h4 = h.srm 0 0 := by rw [e4]; rfl
  rw [e4']
  refine ⟨nn_of rfl S.k, nn_of rfl S.k, ?_⟩
  intro m2 e2
  rw [show (((h.srm 0 0).srm 0 0).fi 2101 s) = 0 from co, if_pos rfl] at e2
  rw [e2]
  refine ⟨.inr rfl, ?_⟩
  intro h11 e11
  have e11' : h11 = h.srm 0 0 := by rw [e11]; rfl
  rw [e11']
  refine brF (by decide) ?_
  intro m1 e1
  rw [if_neg (fun hh => by have h9 : 255 < b := (L_lt 255 (by decide) (by omega)).1 hh; omega)] at e1
  rw [e1]
  refine ⟨.inr rfl, ?_⟩
  intro h39 e39
  have e39' : h39 = h.srm 0 0 := by rw [e39]; rfl
  rw [e39']
  refine brF (by decide) ⟨nn_of rfl S.k, ?_⟩
  rw [show ((h.srm 0 0).fi 2103 s) = I w.length from n, show ((h.srm 0 0).fr 2100 s) = some v from vr, show I w.length + 1 = I (w.length + 1) from I_add _ 1]
  intro h66 e66
  have kd6 : h66.kd v = (41, 16) := by rw [e66]; exact k1
  refine ⟨ix_of rfl kd6 (by omega) (by omega), by rw [e66]; exact S.vb, ?_⟩
  rw [adr_some, I_ni (by omega), nar_byte]
  have eb : Int8.toInt32 (Int32.toInt8 (I b)) = I b := by
    have key : ∀ b : Fin 128, Int8.toInt32 (Int32.toInt8 (I b.1)) = I b.1 := by decide +kernel
    exact key ⟨b, hb⟩
  rw [eb]
  intro h67 e67 h8 e8
  have F : Fr (WSb s v) h.c h8.c := by
    rw [e8]; show Fr (WSb s v) h.c h67.c
    rw [e67]
    refine Fr.sai ?_ _ _ (fun _ => .inr ⟨rfl, rfl⟩)
    rw [e66]
    exact Fr.sfi (h := h.srm 0 0) (Fr.refl _) _ (fun _ => .inl ⟨rfl, rfl⟩)
  have a8 : h8.ai v = updN (h.ai v) w.length (I b) := by
    rw [e8]; show h67.ai v = _
    rw [e67, sai_ai, if_pos rfl, e66]; rfl
  have f8 : h8.fi 2103 s = I (w.length + 1) := by
    rw [e8]; show h67.fi 2103 s = _
    rw [e67]; show h66.fi 2103 s = _
    rw [e66, sfi_same]
  refine hQ h8 F ⟨?_, Nat.lt_of_lt_of_le S.l F.sz, ?_, ?_, Nat.lt_of_lt_of_le S.vl F.sz, ?_, ?_, ?_, ?_, ?_, ?_⟩ ?_ ?_ ?_
  · rw [F.kd s S.l]; exact S.k
  · rw [F.fr 2100 s S.l (by unfold WSb; omega)]; exact S.vr
  · rw [F.kd v S.vl]; exact S.vk
  · have : h8.c.lo = h.c.lo := by unfold HC.lo; rw [F.bs]
    rw [this]; exact S.vb
  · intro i hi
    rw [List.length_append, List.length_singleton] at hi
    show h8.ai v i = _
    rw [a8]
    by_cases ei : i = w.length
    · rw [ei, updN_same, List.getD_eq_getElem?_getD, List.getElem?_append_right (Nat.le_refl _), Nat.sub_self]
      rfl
    · rw [updN_ne _ _ ei, List.getD_eq_getElem?_getD, List.getElem?_append_left (by omega), ← List.getD_eq_getElem?_getD]
      exact S.vv i (by omega)
  · rw [F.fi 2101 s S.l (by unfold WSb; omega)]; exact S.co
  · rw [List.length_append, List.length_singleton]; exact f8
  · rw [List.length_append, List.length_singleton]; omega
  · intro x hx
    rcases List.mem_append.1 hx with hx | hx
    · exact S.b8 x hx
    · rw [List.mem_singleton.1 hx]; exact hb
  · rw [e8]; show h67.sz = _; rw [e67]; show h66.sz = _; rw [e66]; rfl
  · rw [e8]; rfl
  · rw [e8]; rfl
end
