/-! plain: ch cg cg2 cg3 cg4 -/
set_option maxRecDepth 100000
section
/-- a heap without its room. -/
abbrev HC : Type := (Nat → Nat × Nat) × (Nat → Nat → Int32) × (Nat → Nat → Option Nat) × (Nat → Nat → Int32) × (Nat → Nat → Option Nat) × Nat × (Nat × (Nat → Nat))
def HC.kd (c : HC) : Nat → Nat × Nat := c.1
def HC.fi (c : HC) : Nat → Nat → Int32 := c.2.1
def HC.fr (c : HC) : Nat → Nat → Option Nat := c.2.2.1
def HC.ai (c : HC) : Nat → Nat → Int32 := c.2.2.2.1
def HC.ar (c : HC) : Nat → Nat → Option Nat := c.2.2.2.2.1
def HC.sz (c : HC) : Nat := c.2.2.2.2.2.1
def HC.bs (c : HC) : Nat × (Nat → Nat) := c.2.2.2.2.2.2
def AH.c (h : AH) : HC := (h.kd, h.fi, h.fr, h.ai, h.ar, h.sz, h.bs)
def HC.cs (c : HC) : Nat → Nat := c.bs.2
def HC.lo (c : HC) : Nat := c.bs.1
theorem pc_kd (h : AH) : h.c.kd = h.kd := rfl
theorem pc_fi (h : AH) : h.c.fi = h.fi := rfl
theorem pc_fr (h : AH) : h.c.fr = h.fr := rfl
theorem pc_ai (h : AH) : h.c.ai = h.ai := rfl
theorem pc_ar (h : AH) : h.c.ar = h.ar := rfl
theorem pc_sz (h : AH) : h.c.sz = h.sz := rfl
theorem pc_bs (h : AH) : h.c.bs = h.bs := rfl
theorem pc_srm (h : AH) (a b : Nat) : (h.srm a b).c = h.c := rfl
theorem srm_back (h : AH) (a b : Nat) : (h.srm a b).srm h.rc h.rs = h := rfl
theorem srm_rc (h : AH) (a b : Nat) : (h.srm a b).rc = a := rfl
theorem srm_rs (h : AH) (a b : Nat) : (h.srm a b).rs = b := rfl

theorem sfi_fi (h : AH) (F a : Nat) (v) (G b : Nat) : (h.sfi F a v).fi G b = if G = F ∧ b = a then v else h.fi G b := rfl
theorem sfi_same (h : AH) (F a : Nat) (v) : (h.sfi F a v).fi F a = v := if_pos ⟨rfl, rfl⟩
theorem sfi_ne (h : AH) {F : Nat} (a : Nat) (v) {G : Nat} (b : Nat) (e : G ≠ F) : (h.sfi F a v).fi G b = h.fi G b := if_neg (fun x => e x.1)
theorem sfi_na (h : AH) (F : Nat) {a : Nat} (v) (G : Nat) {b : Nat} (e : b ≠ a) : (h.sfi F a v).fi G b = h.fi G b := if_neg (fun x => e x.2)
theorem sfr_same (h : AH) (F a : Nat) (v) : (h.sfr F a v).fr F a = v := if_pos ⟨rfl, rfl⟩
theorem sfr_ne (h : AH) {F : Nat} (a : Nat) (v) {G : Nat} (b : Nat) (e : G ≠ F) : (h.sfr F a v).fr G b = h.fr G b := if_neg (fun x => e x.1)
theorem sfr_na (h : AH) (F : Nat) {a : Nat} (v) (G : Nat) {b : Nat} (e : b ≠ a) : (h.sfr F a v).fr G b = h.fr G b := if_neg (fun x => e x.2)
theorem sfi_kd (h : AH) (F a : Nat) (v) : (h.sfi F a v).kd = h.kd := rfl
theorem sfi_fr (h : AH) (F a : Nat) (v) : (h.sfi F a v).fr = h.fr := rfl
theorem sfi_ai (h : AH) (F a : Nat) (v) : (h.sfi F a v).ai = h.ai := rfl
theorem sfi_ar (h : AH) (F a : Nat) (v) : (h.sfi F a v).ar = h.ar := rfl
theorem sfi_sz (h : AH) (F a : Nat) (v) : (h.sfi F a v).sz = h.sz := rfl
theorem sfi_rc (h : AH) (F a : Nat) (v) : (h.sfi F a v).rc = h.rc := rfl
theorem sfi_rs (h : AH) (F a : Nat) (v) : (h.sfi F a v).rs = h.rs := rfl
theorem sfi_bs (h : AH) (F a : Nat) (v) : (h.sfi F a v).bs = h.bs := rfl
theorem sfr_fr (h : AH) (F a : Nat) (v) (G b : Nat) : (h.sfr F a v).fr G b = if G = F ∧ b = a then v else h.fr G b := rfl
theorem sfr_kd (h : AH) (F a : Nat) (v) : (h.sfr F a v).kd = h.kd := rfl
theorem sfr_fi (h : AH) (F a : Nat) (v) : (h.sfr F a v).fi = h.fi := rfl
theorem sfr_ai (h : AH) (F a : Nat) (v) : (h.sfr F a v).ai = h.ai := rfl
theorem sfr_ar (h : AH) (F a : Nat) (v) : (h.sfr F a v).ar = h.ar := rfl
theorem sfr_sz (h : AH) (F a : Nat) (v) : (h.sfr F a v).sz = h.sz := rfl
theorem sfr_rc (h : AH) (F a : Nat) (v) : (h.sfr F a v).rc = h.rc := rfl
theorem sfr_rs (h : AH) (F a : Nat) (v) : (h.sfr F a v).rs = h.rs := rfl
theorem sfr_bs (h : AH) (F a : Nat) (v) : (h.sfr F a v).bs = h.bs := rfl
theorem sai_ai (h : AH) (a i : Nat) (v) (b : Nat) : (h.sai a i v).ai b = if b = a then updN (h.ai a) i v else h.ai b := by
  funext k
  show (if b = a ∧ k = i then v else h.ai b k) = _
  by_cases e : b = a
  · subst e; simp [updN]
  · simp [e]
theorem sai_kd (h : AH) (a i : Nat) (v) : (h.sai a i v).kd = h.kd := rfl
theorem sai_fi (h : AH) (a i : Nat) (v) : (h.sai a i v).fi = h.fi := rfl
theorem sai_fr (h : AH) (a i : Nat) (v) : (h.sai a i v).fr = h.fr := rfl
theorem sai_ar (h : AH) (a i : Nat) (v) : (h.sai a i v).ar = h.ar := rfl
theorem sai_sz (h : AH) (a i : Nat) (v) : (h.sai a i v).sz = h.sz := rfl
theorem sai_rc (h : AH) (a i : Nat) (v) : (h.sai a i v).rc = h.rc := rfl
theorem sai_rs (h : AH) (a i : Nat) (v) : (h.sai a i v).rs = h.rs := rfl
theorem sai_bs (h : AH) (a i : Nat) (v) : (h.sai a i v).bs = h.bs := rfl
theorem sar_ar (h : AH) (a i : Nat) (v) (b : Nat) : (h.sar a i v).ar b = if b = a then updN (h.ar a) i v else h.ar b := by
  funext k
  show (if b = a ∧ k = i then v else h.ar b k) = _
  by_cases e : b = a
  · subst e; simp [updN]
  · simp [e]
theorem sar_kd (h : AH) (a i : Nat) (v) : (h.sar a i v).kd = h.kd := rfl
theorem sar_fi (h : AH) (a i : Nat) (v) : (h.sar a i v).fi = h.fi := rfl
theorem sar_fr (h : AH) (a i : Nat) (v) : (h.sar a i v).fr = h.fr := rfl
theorem sar_ai (h : AH) (a i : Nat) (v) : (h.sar a i v).ai = h.ai := rfl
theorem sar_sz (h : AH) (a i : Nat) (v) : (h.sar a i v).sz = h.sz := rfl
theorem sar_rc (h : AH) (a i : Nat) (v) : (h.sar a i v).rc = h.rc := rfl
theorem sar_rs (h : AH) (a i : Nat) (v) : (h.sar a i v).rs = h.rs := rfl
theorem sar_bs (h : AH) (a i : Nat) (v) : (h.sar a i v).bs = h.bs := rfl
theorem new_kd (h : AH) (t n m a : Nat) : (h.new t n m).kd a = if a = h.sz then (t, n) else h.kd a := rfl
theorem new_fi (h : AH) (t n m F a : Nat) : (h.new t n m).fi F a = if a = h.sz then 0 else h.fi F a := rfl
theorem new_fr (h : AH) (t n m F a : Nat) : (h.new t n m).fr F a = if a = h.sz then none else h.fr F a := rfl
theorem new_ai (h : AH) (t n m a : Nat) : (h.new t n m).ai a = if a = h.sz then (fun _ => 0) else h.ai a := by
  funext k
  show (if a = h.sz then _ else _) = _
  split <;> rfl
theorem new_ar (h : AH) (t n m a : Nat) : (h.new t n m).ar a = if a = h.sz then (fun _ => none) else h.ar a := by
  funext k
  show (if a = h.sz then _ else _) = _
  split <;> rfl
theorem new_sz (h : AH) (t n m : Nat) : (h.new t n m).sz = h.sz + 1 := rfl
theorem new_rc (h : AH) (t n m : Nat) : (h.new t n m).rc = h.rc - 1 := rfl
theorem new_rs (h : AH) (t n m : Nat) : (h.new t n m).rs = h.rs - m := rfl
theorem new_bs (h : AH) (t n m : Nat) : (h.new t n m).bs = h.bs := rfl

/-- what may be written of what there was: a field of an address; 0: an array's cells. -/
def Fr (W : Nat → Nat → Prop) (c c' : HC) : Prop :=
  (c.sz ≤ c'.sz) ∧
  (c'.bs = c.bs) ∧
  (∀ a, a < c.sz → c'.kd a = c.kd a) ∧
  (∀ f a, a < c.sz → ¬ W f a → c'.fi f a = c.fi f a) ∧
  (∀ f a, a < c.sz → ¬ W f a → c'.fr f a = c.fr f a) ∧
  (∀ a, a < c.sz → ¬ W 0 a → c'.ai a = c.ai a) ∧
  (∀ a, a < c.sz → ¬ W 0 a → c'.ar a = c.ar a)
theorem Fr.sz {W : Nat → Nat → Prop} {c c' : HC} (h9 : Fr W c c') : c.sz ≤ c'.sz := h9.1
theorem Fr.bs {W : Nat → Nat → Prop} {c c' : HC} (h9 : Fr W c c') : c'.bs = c.bs := h9.2.1
theorem Fr.kd {W : Nat → Nat → Prop} {c c' : HC} (h9 : Fr W c c') : ∀ a, a < c.sz → c'.kd a = c.kd a := h9.2.2.1
theorem Fr.fi {W : Nat → Nat → Prop} {c c' : HC} (h9 : Fr W c c') : ∀ f a, a < c.sz → ¬ W f a → c'.fi f a = c.fi f a := h9.2.2.2.1
theorem Fr.fr {W : Nat → Nat → Prop} {c c' : HC} (h9 : Fr W c c') : ∀ f a, a < c.sz → ¬ W f a → c'.fr f a = c.fr f a := h9.2.2.2.2.1
theorem Fr.ai {W : Nat → Nat → Prop} {c c' : HC} (h9 : Fr W c c') : ∀ a, a < c.sz → ¬ W 0 a → c'.ai a = c.ai a := h9.2.2.2.2.2.1
theorem Fr.ar {W : Nat → Nat → Prop} {c c' : HC} (h9 : Fr W c c') : ∀ a, a < c.sz → ¬ W 0 a → c'.ar a = c.ar a := h9.2.2.2.2.2.2

abbrev W0 : Nat → Nat → Prop := fun _ _ => False
theorem Fr.refl {W} (c : HC) : Fr W c c := ⟨Nat.le_refl _, rfl, fun _ _ => rfl, fun _ _ _ _ => rfl, fun _ _ _ _ => rfl, fun _ _ _ => rfl, fun _ _ _ => rfl⟩
theorem Fr.trans {W c d e} (h : Fr W c d) (g : Fr W d e) : Fr W c e :=
  ⟨Nat.le_trans h.sz g.sz, g.bs.trans h.bs, fun a ha => (g.kd a (Nat.lt_of_lt_of_le ha h.sz)).trans (h.kd a ha),
   fun f a ha hw => (g.fi f a (Nat.lt_of_lt_of_le ha h.sz) hw).trans (h.fi f a ha hw), fun f a ha hw => (g.fr f a (Nat.lt_of_lt_of_le ha h.sz) hw).trans (h.fr f a ha hw),
   fun a ha hw => (g.ai a (Nat.lt_of_lt_of_le ha h.sz) hw).trans (h.ai a ha hw), fun a ha hw => (g.ar a (Nat.lt_of_lt_of_le ha h.sz) hw).trans (h.ar a ha hw)⟩
/-- the second may write also what is new to the first. -/
theorem Fr.trans' {W W' c d e} (h : Fr W c d) (g : Fr W' d e) (hW : ∀ f a, a < c.sz → W' f a → W f a) : Fr W c e :=
  ⟨Nat.le_trans h.sz g.sz, g.bs.trans h.bs, fun a ha => (g.kd a (Nat.lt_of_lt_of_le ha h.sz)).trans (h.kd a ha),
   fun f a ha hw => (g.fi f a (Nat.lt_of_lt_of_le ha h.sz) (fun x => hw (hW f a ha x))).trans (h.fi f a ha hw), fun f a ha hw => (g.fr f a (Nat.lt_of_lt_of_le ha h.sz) (fun x => hw (hW f a ha x))).trans (h.fr f a ha hw),
   fun a ha hw => (g.ai a (Nat.lt_of_lt_of_le ha h.sz) (fun x => hw (hW 0 a ha x))).trans (h.ai a ha hw), fun a ha hw => (g.ar a (Nat.lt_of_lt_of_le ha h.sz) (fun x => hw (hW 0 a ha x))).trans (h.ar a ha hw)⟩
theorem Fr.mono {W W' c d} (h : Fr W c d) (hW : ∀ f a, a < c.sz → W f a → W' f a) : Fr W' c d :=
  ⟨h.sz, h.bs, h.kd, fun f a ha hw => h.fi f a ha (fun x => hw (hW f a ha x)), fun f a ha hw => h.fr f a ha (fun x => hw (hW f a ha x)),
   fun a ha hw => h.ai a ha (fun x => hw (hW 0 a ha x)), fun a ha hw => h.ar a ha (fun x => hw (hW 0 a ha x))⟩
theorem Fr.sfi {W c} {h : AH} (H : Fr W c h.c) {F a : Nat} (v) (hW : a < c.sz → W F a) : Fr W c (h.sfi F a v).c :=
  ⟨H.sz, H.bs, H.kd, fun f b hb hw => by
    have : ¬ (f = F ∧ b = a) := fun e => hw (by rw [e.1, e.2]; exact hW (e.2 ▸ hb))
    show (if f = F ∧ b = a then v else h.fi f b) = _
    rw [if_neg this]; exact H.fi f b hb hw, H.fr, H.ai, H.ar⟩
theorem Fr.sfr {W c} {h : AH} (H : Fr W c h.c) {F a : Nat} (v) (hW : a < c.sz → W F a) : Fr W c (h.sfr F a v).c :=
  ⟨H.sz, H.bs, H.kd, H.fi, fun f b hb hw => by
    have : ¬ (f = F ∧ b = a) := fun e => hw (by rw [e.1, e.2]; exact hW (e.2 ▸ hb))
    show (if f = F ∧ b = a then v else h.fr f b) = _
    rw [if_neg this]; exact H.fr f b hb hw, H.ai, H.ar⟩
theorem Fr.sai {W c} {h : AH} (H : Fr W c h.c) {a : Nat} (i v) (hW : a < c.sz → W 0 a) : Fr W c (h.sai a i v).c :=
  ⟨H.sz, H.bs, H.kd, H.fi, H.fr, fun b hb hw => by
    have : b ≠ a := fun e => hw (by rw [e]; exact hW (e ▸ hb))
    show (h.sai a i v).ai b = _
    rw [sai_ai, if_neg this]; exact H.ai b hb hw, H.ar⟩
theorem Fr.sar {W c} {h : AH} (H : Fr W c h.c) {a : Nat} (i v) (hW : a < c.sz → W 0 a) : Fr W c (h.sar a i v).c :=
  ⟨H.sz, H.bs, H.kd, H.fi, H.fr, H.ai, fun b hb hw => by
    have : b ≠ a := fun e => hw (by rw [e]; exact hW (e ▸ hb))
    show (h.sar a i v).ar b = _
    rw [sar_ar, if_neg this]; exact H.ar b hb hw⟩
theorem Fr.new {W c} {h : AH} (H : Fr W c h.c) (t n m) : Fr W c (h.new t n m).c := by
  have hz : c.sz ≤ h.sz := H.sz
  refine ⟨Nat.le_succ_of_le H.sz, H.bs, fun a ha => ?_, fun f a ha hw => ?_, fun f a ha hw => ?_, fun a ha hw => ?_, fun a ha hw => ?_⟩
  · show (h.new t n m).kd a = _; rw [new_kd, if_neg (by omega)]; exact H.kd a ha
  · show (h.new t n m).fi f a = _; rw [new_fi, if_neg (by omega)]; exact H.fi f a ha hw
  · show (h.new t n m).fr f a = _; rw [new_fr, if_neg (by omega)]; exact H.fr f a ha hw
  · show (h.new t n m).ai a = _; rw [new_ai, if_neg (by omega)]; exact H.ai a ha hw
  · show (h.new t n m).ar a = _; rw [new_ar, if_neg (by omega)]; exact H.ar a ha hw

theorem nn_of {h : AH} {r : Option Nat} {a t : Nat} (hr : r = some a) (hk : (h.kd a).1 = t) : nn h r t := ⟨a, hr, hk⟩
theorem ix_of {h : AH} {r : Option Nat} {a t n k : Nat} (hr : r = some a) (hk : h.kd a = (t, n)) (hi : k < n) (hn : n < 2147483648) : ix h r t (I k) :=
  ⟨a, hr, by rw [hk], by
    have e : (h.kd a).2 = n := by rw [hk]
    rw [e]
    rintro (h1 | h1)
    · exact I_nonneg (by omega) h1
    · have : (I k).toNatClampNeg = k := I_ni (by omega)
      omega⟩
theorem adr_some (a : Nat) : adr (some a) = a := rfl

/-- a list: its address, its cells' address, how many cells, how many things, which. -/
def Ls (c : HC) (a d m n : Nat) (x : Nat → Nat) : Prop :=
  ((c.kd a).1 = 23) ∧
  (a < c.sz) ∧
  (c.fi 2302 a = I n) ∧
  (c.fr 2301 a = some d) ∧
  (c.kd d = (44, m)) ∧
  (d < c.sz) ∧
  (n ≤ m) ∧
  (m ≤ 100000) ∧
  (∀ i, i < n → c.ar d i = some (x i))
theorem Ls.k {c : HC} {a d m n : Nat} {x : Nat → Nat} (h9 : Ls c a d m n x) : (c.kd a).1 = 23 := h9.1
theorem Ls.al {c : HC} {a d m n : Nat} {x : Nat → Nat} (h9 : Ls c a d m n x) : a < c.sz := h9.2.1
theorem Ls.sz {c : HC} {a d m n : Nat} {x : Nat → Nat} (h9 : Ls c a d m n x) : c.fi 2302 a = I n := h9.2.2.1
theorem Ls.e {c : HC} {a d m n : Nat} {x : Nat → Nat} (h9 : Ls c a d m n x) : c.fr 2301 a = some d := h9.2.2.2.1
theorem Ls.dk {c : HC} {a d m n : Nat} {x : Nat → Nat} (h9 : Ls c a d m n x) : c.kd d = (44, m) := h9.2.2.2.2.1
theorem Ls.dl {c : HC} {a d m n : Nat} {x : Nat → Nat} (h9 : Ls c a d m n x) : d < c.sz := h9.2.2.2.2.2.1
theorem Ls.nm {c : HC} {a d m n : Nat} {x : Nat → Nat} (h9 : Ls c a d m n x) : n ≤ m := h9.2.2.2.2.2.2.1
theorem Ls.mb {c : HC} {a d m n : Nat} {x : Nat → Nat} (h9 : Ls c a d m n x) : m ≤ 100000 := h9.2.2.2.2.2.2.2.1
theorem Ls.el {c : HC} {a d m n : Nat} {x : Nat → Nat} (h9 : Ls c a d m n x) : ∀ i, i < n → c.ar d i = some (x i) := h9.2.2.2.2.2.2.2.2

theorem Ls.keep {W c c' a d m n x} (L : Ls c a d m n x) (F : Fr W c c') (h1 : ¬ W 2302 a) (h2 : ¬ W 2301 a) (h3 : ¬ W 0 d) : Ls c' a d m n x :=
  ⟨by rw [F.kd a L.al]; exact L.k, Nat.lt_of_lt_of_le L.al F.sz, by rw [F.fi _ a L.al h1]; exact L.sz, by rw [F.fr _ a L.al h2]; exact L.e, by rw [F.kd d L.dl]; exact L.dk, Nat.lt_of_lt_of_le L.dl F.sz, L.nm, L.mb,
   fun i hi => by rw [F.ar d L.dl h3]; exact L.el i hi⟩

theorem pc_size {h : AH} {a d m n x} (L : Ls h.c a d m n x) {Q : Int32 → AH → Prop} (hQ : Q (I n) h) : wp_J12_size a h Q := by
  refine ⟨nn_of rfl L.k, ?_⟩
  have := L.sz
  simp only [pc_fi] at this
  rw [this]; exact hQ

theorem pc_checkIndex {h : AH} {i n : Nat} (hi : i < n) (hn : n < 2147483648) {r : Option Nat} {Q : Int32 → AH → Prop} (hQ : Q (I i) h) : wp_J8_checkIndex (I i) (I n) r h Q :=
  brT ⟨I_nonneg (by omega), (I_lt (by omega) (by omega)).2 hi⟩ hQ

theorem pc_get {h : AH} {a d m n x} (L : Ls h.c a d m n x) {i : Nat} (hi : i < n) {Q : Option Nat → AH → Prop} (hQ : Q (some (x i)) h) : wp_J12_get a (I i) h Q := by
  have hm := L.mb
  have hnm := L.nm
  have hsz : h.fi 2302 a = I n := L.sz
  have he : h.fr 2301 a = some d := L.e
  refine ⟨nn_of rfl L.k, ?_⟩
  rw [hsz]
  refine pc_checkIndex hi (by omega) ?_
  intro h3 e3
  rw [srm_back] at e3; subst e3
  intro h4 e4
  rw [srm_back] at e4; subst e4
  refine ⟨nn_of rfl L.k, ?_⟩
  refine ⟨nn_of rfl L.k, ix_of he L.dk (by omega) (by omega), ?_⟩
  intro h8 e8
  rw [srm_back] at e8; subst e8
  show Q (h8.ar (adr (h8.fr 2301 a)) (ni (I i))) h8
  rw [he, adr_some, I_ni (by omega)]
  have := L.el i hi
  simp only [pc_ar] at this
  rw [this]; exact hQ

/-- a loop that counts. -/
theorem xlp_cnt {σ : Type} {B : σ → AH → (σ → AH → Prop) → Prop} {s : σ} {h : AH} (N : Nat) (J : Nat → σ → AH → Prop) (h0 : J 0 s h)
    (hb : ∀ k s h K, k ≤ N → J k s h → (∀ s' h', k < N → J (k + 1) s' h' → K s' h') → B s h K) : xlp B s h := by
  refine ⟨fun n s h => ∃ k, k + n = N ∧ J k s h, ⟨N, 0, by omega, h0⟩, ?_⟩
  rintro n s h ⟨k, hk, hJ⟩
  refine hb k s h _ (by omega) hJ ?_
  intro s' h' hlt hJ'
  exact ⟨n - 1, by omega, k + 1, by omega, hJ'⟩
end
section
theorem pu {P : AH → Prop} {h : AH} {a b : Nat} (hp : P h) : ∀ h4, h4 = (h.srm a b).srm h.rc h.rs → P h4 := fun h4 e => by rw [e, srm_back]; exact hp

/-- where a grammar's things lie. -/
def GA : Type := (Nat) × (Nat) × (Nat) × (Nat) × (Nat) × (Nat) × (Nat) × (Nat → Nat) × (Nat → Nat) × (Nat → Nat) × (Nat → Nat) × (Nat → Nat) × (Nat → Nat) × (Nat → Nat) × (Nat → Nat) × (Nat → Nat) × (Nat → Nat) × (Nat → Nat) × (Nat → Nat) × (Nat → Nat) × (Nat → Nat)
def GA.g (L : GA) : Nat := L.1
def GA.sl (L : GA) : Nat := L.2.1
def GA.sd (L : GA) : Nat := L.2.2.1
def GA.sm (L : GA) : Nat := L.2.2.2.1
def GA.pl (L : GA) : Nat := L.2.2.2.2.1
def GA.pd (L : GA) : Nat := L.2.2.2.2.2.1
def GA.pm (L : GA) : Nat := L.2.2.2.2.2.2.1
def GA.sa (L : GA) : Nat → Nat := L.2.2.2.2.2.2.2.1
def GA.pa (L : GA) : Nat → Nat := L.2.2.2.2.2.2.2.2.1
def GA.nl (L : GA) : Nat → Nat := L.2.2.2.2.2.2.2.2.2.1
def GA.nd (L : GA) : Nat → Nat := L.2.2.2.2.2.2.2.2.2.2.1
def GA.nm (L : GA) : Nat → Nat := L.2.2.2.2.2.2.2.2.2.2.2.1
def GA.si (L : GA) : Nat → Nat := L.2.2.2.2.2.2.2.2.2.2.2.2.1
def GA.sv (L : GA) : Nat → Nat := L.2.2.2.2.2.2.2.2.2.2.2.2.2.1
def GA.ql (L : GA) : Nat → Nat := L.2.2.2.2.2.2.2.2.2.2.2.2.2.2.1
def GA.qd (L : GA) : Nat → Nat := L.2.2.2.2.2.2.2.2.2.2.2.2.2.2.2.1
def GA.qm (L : GA) : Nat → Nat := L.2.2.2.2.2.2.2.2.2.2.2.2.2.2.2.2.1
def GA.pr (L : GA) : Nat → Nat := L.2.2.2.2.2.2.2.2.2.2.2.2.2.2.2.2.2.1
def GA.pk (L : GA) : Nat → Nat := L.2.2.2.2.2.2.2.2.2.2.2.2.2.2.2.2.2.2.1
def GA.po (L : GA) : Nat → Nat := L.2.2.2.2.2.2.2.2.2.2.2.2.2.2.2.2.2.2.2.1
def GA.pp (L : GA) : Nat → Nat := L.2.2.2.2.2.2.2.2.2.2.2.2.2.2.2.2.2.2.2.2

def SyR (c : HC) (L : GA) (G : Gv) (s : Nat) : Prop :=
  ((c.kd (L.sa s)).1 = 6) ∧
  (L.sa s < c.sz) ∧
  (c.fr 601 (L.sa s) = some (L.nl s)) ∧
  ((c.kd (L.nl s)).1 = 23) ∧
  (L.nl s < c.sz) ∧
  (c.fi 2302 (L.nl s) = I (G.cnt s)) ∧
  (c.fi 602 (L.sa s) = I (G.ins s)) ∧
  (c.fr 603 (L.sa s) = some (L.si s)) ∧
  (c.kd (L.si s) = (40, 8)) ∧
  (L.si s < c.sz) ∧
  (c.fr 604 (L.sa s) = some (L.sv s)) ∧
  (c.kd (L.sv s) = (40, 8)) ∧
  (L.sv s < c.sz)
theorem SyR.k {c : HC} {L : GA} {G : Gv} {s : Nat} (h9 : SyR c L G s) : (c.kd (L.sa s)).1 = 6 := h9.1
theorem SyR.l {c : HC} {L : GA} {G : Gv} {s : Nat} (h9 : SyR c L G s) : L.sa s < c.sz := h9.2.1
theorem SyR.nf {c : HC} {L : GA} {G : Gv} {s : Nat} (h9 : SyR c L G s) : c.fr 601 (L.sa s) = some (L.nl s) := h9.2.2.1
theorem SyR.nk {c : HC} {L : GA} {G : Gv} {s : Nat} (h9 : SyR c L G s) : (c.kd (L.nl s)).1 = 23 := h9.2.2.2.1
theorem SyR.nll {c : HC} {L : GA} {G : Gv} {s : Nat} (h9 : SyR c L G s) : L.nl s < c.sz := h9.2.2.2.2.1
theorem SyR.nsz {c : HC} {L : GA} {G : Gv} {s : Nat} (h9 : SyR c L G s) : c.fi 2302 (L.nl s) = I (G.cnt s) := h9.2.2.2.2.2.1
theorem SyR.ins {c : HC} {L : GA} {G : Gv} {s : Nat} (h9 : SyR c L G s) : c.fi 602 (L.sa s) = I (G.ins s) := h9.2.2.2.2.2.2.1
theorem SyR.i1 {c : HC} {L : GA} {G : Gv} {s : Nat} (h9 : SyR c L G s) : c.fr 603 (L.sa s) = some (L.si s) := h9.2.2.2.2.2.2.2.1
theorem SyR.i2 {c : HC} {L : GA} {G : Gv} {s : Nat} (h9 : SyR c L G s) : c.kd (L.si s) = (40, 8) := h9.2.2.2.2.2.2.2.2.1
theorem SyR.i3 {c : HC} {L : GA} {G : Gv} {s : Nat} (h9 : SyR c L G s) : L.si s < c.sz := h9.2.2.2.2.2.2.2.2.2.1
theorem SyR.v1 {c : HC} {L : GA} {G : Gv} {s : Nat} (h9 : SyR c L G s) : c.fr 604 (L.sa s) = some (L.sv s) := h9.2.2.2.2.2.2.2.2.2.2.1
theorem SyR.v2 {c : HC} {L : GA} {G : Gv} {s : Nat} (h9 : SyR c L G s) : c.kd (L.sv s) = (40, 8) := h9.2.2.2.2.2.2.2.2.2.2.2.1
theorem SyR.v3 {c : HC} {L : GA} {G : Gv} {s : Nat} (h9 : SyR c L G s) : L.sv s < c.sz := h9.2.2.2.2.2.2.2.2.2.2.2.2

def PrR (c : HC) (L : GA) (G : Gv) (p : Nat) : Prop :=
  ((c.kd (L.pa p)).1 = 7) ∧
  (L.pa p < c.sz) ∧
  (c.fr 701 (L.pa p) = some (L.ql p)) ∧
  (Ls c (L.ql p) (L.qd p) (L.qm p) (G.kn p + 1) (fun k => L.sa (G.sy p k))) ∧
  (c.fr 703 (L.pa p) = some (L.pk p)) ∧
  (c.kd (L.pk p) = (40, 32)) ∧
  (L.pk p < c.sz) ∧
  (∀ o, o < 32 → c.ai (L.pk p) o = G.ask p o)
theorem PrR.k {c : HC} {L : GA} {G : Gv} {p : Nat} (h9 : PrR c L G p) : (c.kd (L.pa p)).1 = 7 := h9.1
theorem PrR.l {c : HC} {L : GA} {G : Gv} {p : Nat} (h9 : PrR c L G p) : L.pa p < c.sz := h9.2.1
theorem PrR.sf {c : HC} {L : GA} {G : Gv} {p : Nat} (h9 : PrR c L G p) : c.fr 701 (L.pa p) = some (L.ql p) := h9.2.2.1
theorem PrR.sl {c : HC} {L : GA} {G : Gv} {p : Nat} (h9 : PrR c L G p) : Ls c (L.ql p) (L.qd p) (L.qm p) (G.kn p + 1) (fun k => L.sa (G.sy p k)) := h9.2.2.2.1
theorem PrR.k1 {c : HC} {L : GA} {G : Gv} {p : Nat} (h9 : PrR c L G p) : c.fr 703 (L.pa p) = some (L.pk p) := h9.2.2.2.2.1
theorem PrR.k2 {c : HC} {L : GA} {G : Gv} {p : Nat} (h9 : PrR c L G p) : c.kd (L.pk p) = (40, 32) := h9.2.2.2.2.2.1
theorem PrR.k3 {c : HC} {L : GA} {G : Gv} {p : Nat} (h9 : PrR c L G p) : L.pk p < c.sz := h9.2.2.2.2.2.2.1
theorem PrR.k4 {c : HC} {L : GA} {G : Gv} {p : Nat} (h9 : PrR c L G p) : ∀ o, o < 32 → c.ai (L.pk p) o = G.ask p o := h9.2.2.2.2.2.2.2

def GS (c : HC) (L : GA) (G : Gv) : Prop :=
  (∀ s, s < G.nS → SyR c L G s) ∧
  (∀ p, p < G.nP → PrR c L G p)
theorem GS.sy {c : HC} {L : GA} {G : Gv} (h9 : GS c L G) : ∀ s, s < G.nS → SyR c L G s := h9.1
theorem GS.pr {c : HC} {L : GA} {G : Gv} (h9 : GS c L G) : ∀ p, p < G.nP → PrR c L G p := h9.2

variable {G : Gv} {h : AH} {L : GA}

theorem px_has {p : Int32} {k : Nat} (hk : k < 32) {Q : Int32 → AH → Prop} (hQ : Q (if bt p k then 1 else 0) h) : wp_X0_has p (I k) h Q := by
  intro m hm
  have : m = if bt p k then 1 else 0 := by
    rw [hm]
    by_cases hb : bt p k = true
    · rw [if_pos ((has_ushr hk).2 hb), if_pos hb]
    · rw [if_neg (fun h => hb ((has_ushr hk).1 h)), if_neg hb]
  rw [this]
  refine ⟨?_, hQ⟩
  by_cases hb : bt p k = true <;> simp [bz, hb]

theorem px_isIn {x lo hi : Int32} {Q : Int32 → AH → Prop} (hQ : Q (if lo ≤ x ∧ x ≤ hi then 1 else 0) h) : wp_X0_isIn x lo hi h Q := by
  intro m hm
  have : m = if lo ≤ x ∧ x ≤ hi then 1 else 0 := by
    rw [hm]
    by_cases h1 : x < lo
    · rw [if_pos h1, if_neg (by intro hh; have := hh.1; lia)]
    · by_cases h2 : hi < x
      · rw [if_neg h1, if_pos h2, if_neg (by intro hh; have := hh.2; lia)]
      · rw [if_neg h1, if_neg h2, if_pos ⟨by lia, by lia⟩]
  rw [this]
  refine ⟨?_, hQ⟩
  by_cases hb : lo ≤ x ∧ x ≤ hi <;> simp [bz, hb]

theorem px_count {s : Nat} (S : SyR h.c L G s) {Q : Int32 → AH → Prop} (hQ : Q (I (G.cnt s)) h) : wp_X5_count (L.sa s) h Q := by
  have nf : h.fr 601 (L.sa s) = some (L.nl s) := S.nf
  have nsz : h.fi 2302 (L.nl s) = I (G.cnt s) := S.nsz
  refine ⟨nn_of rfl S.k, nn_of nf S.nk, ?_⟩
  rw [nf]
  refine ⟨nn_of rfl S.nk, pu ?_⟩
  show Q (h.fi 2302 (L.nl s)) h
  rw [nsz]; exact hQ

theorem px_sym {p k : Nat} (P : PrR h.c L G p) (hk : k ≤ G.kn p) {Q : Option Nat → AH → Prop} (hQ : Q (some (L.sa (G.sy p k))) h) : wp_J12_get (L.ql p) (I k) h Q :=
  pc_get P.sl (by omega) hQ

theorem px_isOcc (W : G.WF) (S : GS h.c L G) {p o : Nat} (hp : p < G.nP) (ho : o < 2147483648) {Q : Int32 → AH → Prop} (hQ : Q (if G.oc p o then 1 else 0) h) : wp_X6_isOcc (L.pa p) (I o) h Q := by
  have P := S.pr p hp
  have sf : h.fr 701 (L.pa p) = some (L.ql p) := P.sf
  have h3 := W.kn p hp
  unfold wp_X6_isOcc
  refine px_isIn (pu ?_)
  have e31 : (0 ≤ I o ∧ I o ≤ 31) ↔ o < 32 := by
    constructor
    · rintro ⟨_, h⟩; have := (le_L 31 (by decide) ho).1 h; have e : (OfNat.ofNat 31 : Nat) = 31 := rfl; omega
    · intro h; exact ⟨(L_le 0 (by decide) ho).2 (Nat.zero_le _), (le_L 31 (by decide) ho).2 (by show o ≤ 31; omega)⟩
  by_cases h32 : o < 32
  · rw [if_pos (e31.2 h32)]
    refine brF (by decide) ⟨nn_of rfl P.k, nn_of sf P.sl.k, ?_⟩
    rw [sf]
    refine pc_size (h := h.srm 0 0) P.sl (pu ?_)
    (try simp (disch := omega) only [L_le, le_L, L_lt, lt_L, eq_L, L_eq, I_le, I_lt, I_eq, I_ni, add_L, L_add, I_add, mul_L, L_mul, I_mul, sub_L, L_sub, I_sub, div_L, rem_L])
    by_cases hk : G.kn p + 1 ≤ o / 8
    · refine brT hk ?_
      rw [if_neg (fun hh : G.oc p o => by have := hh.2.1; omega)] at hQ; exact hQ
    · refine brF hk ⟨nn_of rfl P.k, nn_of sf P.sl.k, ?_⟩
      rw [sf]
      refine px_sym (h := h.srm 0 0) P (k := o / 8) (by omega) (pu ?_)
      have hs := W.sy p (o / 8) hp (by omega)
      have Y := S.sy _ hs
      have hc := W.cnt8 hs
      refine ⟨.inr (nn_of rfl Y.k), nn_of rfl Y.k, ?_⟩
      refine px_count (h := h.srm 0 0) Y (pu ?_)
      rintro m rfl
      (try simp (disch := omega) only [L_le, le_L, L_lt, lt_L, eq_L, L_eq, I_le, I_lt, I_eq, I_ni, add_L, L_add, I_add, mul_L, L_mul, I_mul, sub_L, L_sub, I_sub, div_L, rem_L])
      by_cases hc' : G.cnt (G.sy p (o / 8)) ≤ o % 8
      · rw [if_pos hc']
        rw [if_neg (fun hh : G.oc p o => by have := hh.2.2; omega)] at hQ
        exact ⟨.inl rfl, hQ⟩
      · rw [if_neg hc']
        rw [if_pos (show G.oc p o from ⟨h32, by omega, by omega⟩)] at hQ
        exact ⟨.inr rfl, hQ⟩
  · rw [if_neg (fun hh => h32 (e31.1 hh))]
    refine brT rfl ?_
    rw [if_neg (fun hh : G.oc p o => h32 hh.1)] at hQ; exact hQ

theorem px_isTold (W : G.WF) (S : GS h.c L G) {p o : Nat} (hp : p < G.nP) (ho : o < 2147483648) {Q : Int32 → AH → Prop} (hQ : Q (if G.tl p o then 1 else 0) h) : wp_X6_isTold (L.pa p) (I o) h Q := by
  have P := S.pr p hp
  have sf : h.fr 701 (L.pa p) = some (L.ql p) := P.sf
  refine ⟨nn_of rfl P.k, ?_⟩
  refine px_isOcc (h := h.srm 0 0) W S hp ho (pu ?_)
  by_cases hoc : G.oc p o
  · rw [if_pos hoc]
    have h32 := hoc.1
    refine brF (by decide) ⟨nn_of rfl P.k, nn_of sf P.sl.k, ?_⟩
    rw [sf]
    (try simp (disch := omega) only [L_le, le_L, L_lt, lt_L, eq_L, L_eq, I_le, I_lt, I_eq, I_ni, add_L, L_add, I_add, mul_L, L_mul, I_mul, sub_L, L_sub, I_sub, div_L, rem_L])
    refine px_sym (h := h.srm 0 0) P (k := o / 8) hoc.2.1 (pu ?_)
    have hs := W.sy p (o / 8) hp hoc.2.1
    have Y := S.sy _ hs
    have hi := W.ins _ hs
    have ei : h.fi 602 (L.sa (G.sy p (o / 8))) = I (G.ins (G.sy p (o / 8))) := Y.ins
    refine ⟨.inr (nn_of rfl Y.k), nn_of rfl Y.k, ?_⟩
    rintro m12 rfl m14 rfl m16 rfl
    rw [adr_some, ei]
    (try simp (disch := omega) only [L_le, le_L, L_lt, lt_L, eq_L, L_eq, I_le, I_lt, I_eq, I_ni, add_L, L_add, I_add, mul_L, L_mul, I_mul, sub_L, L_sub, I_sub, div_L, rem_L])
    have key : (if (if o % 8 < G.ins (G.sy p (o / 8)) then (0 : Int32) else 1) = (if 8 ≤ o then 0 else 1) then (1 : Int32) else 0) = if G.tl p o then 1 else 0 := by
      by_cases h1 : 8 ≤ o
      · rw [if_pos h1]
        by_cases h2 : o % 8 < G.ins (G.sy p (o / 8))
        · rw [if_pos h2, if_pos rfl, if_pos]
          exact ⟨hoc, ⟨fun _ => by omega, fun _ => by omega⟩⟩
        · rw [if_neg h2, if_neg (by decide), if_neg]
          intro hh; have := hh.2.1 (by omega); omega
      · rw [if_neg h1]
        by_cases h2 : o % 8 < G.ins (G.sy p (o / 8))
        · rw [if_pos h2, if_neg (by decide), if_neg]
          intro hh; have := hh.2.2 (by omega); omega
        · rw [if_neg h2, if_pos rfl, if_pos]
          exact ⟨hoc, ⟨fun _ => by omega, fun _ => by omega⟩⟩
    rw [key]
    refine ⟨?_, hQ⟩
    by_cases hh : G.tl p o <;> simp [bz, hh]
  · rw [if_neg hoc]
    refine brT rfl ?_
    rw [if_neg (fun hh : G.tl p o => hoc hh.1)] at hQ; exact hQ

theorem px_asked {p o : Nat} (P : PrR h.c L G p) (ho : o < 32) {Q : Int32 → AH → Prop} (hQ : Q (G.ask p o) h) : wp_X6_asked (L.pa p) (I o) h Q := by
  have k1 : h.fr 703 (L.pa p) = some (L.pk p) := P.k1
  refine ⟨nn_of rfl P.k, ix_of k1 P.k2 ho (by decide), ?_⟩
  rw [k1, adr_some, I_ni (by omega)]
  have := P.k4 o ho
  simp only [pc_ai] at this
  rw [this]; exact hQ

/-- an array of numbers, closed as it lies. -/
theorem px_closed {a n : Nat} {r : Nat → Int32} (hk : h.kd a = (40, n)) (hn : 32 ≤ n) (hn2 : n < 2147483648) (hr : h.ai a = r) {Q : Option Nat → AH → Prop}
    (hQ : ∀ h', Fr (fun f b => f = 0 ∧ b = a) h.c h'.c → h'.sz = h.sz → h'.rc = h.rc → h'.rs = h.rs → h'.ai a = clo r → Q (some a) h') : wp_X0_closed (some a) h Q := by
  unfold wp_X0_closed
  refine xlp_cnt 32 (fun k s T => s = I k ∧ Fr (fun f b => f = 0 ∧ b = a) h.c T.c ∧ T.sz = h.sz ∧ T.rc = h.rc ∧ T.rs = h.rs ∧ T.kd a = (40, n) ∧ T.ai a = clK r k) ⟨rfl, Fr.refl _, rfl, rfl, rfl, hk, hr⟩ ?_
  rintro k _ T K hk' ⟨rfl, hF, e1, e2, e3, hkT, hT⟩ hK
  by_cases e : k = 32
  · subst e
    exact brT (by (first | omega | ((try simp (disch := omega) only [L_le, le_L, L_lt, lt_L, eq_L, L_eq, I_le, I_lt, I_eq, I_ni, add_L, L_add, I_add, mul_L, L_mul, I_mul, sub_L, L_sub, I_sub, div_L, rem_L]); done) | ((try simp (disch := omega) only [L_le, le_L, L_lt, lt_L, eq_L, L_eq, I_le, I_lt, I_eq, I_ni, add_L, L_add, I_add, mul_L, L_mul, I_mul, sub_L, L_sub, I_sub, div_L, rem_L]); omega))) (hQ T hF e1 e2 e3 hT)
  have hk32 : k < 32 := by omega
  refine brF (by (first | omega | ((try simp (disch := omega) only [L_le, le_L, L_lt, lt_L, eq_L, L_eq, I_le, I_lt, I_eq, I_ni, add_L, L_add, I_add, mul_L, L_mul, I_mul, sub_L, L_sub, I_sub, div_L, rem_L]); done) | ((try simp (disch := omega) only [L_le, le_L, L_lt, lt_L, eq_L, L_eq, I_le, I_lt, I_eq, I_ni, add_L, L_add, I_add, mul_L, L_mul, I_mul, sub_L, L_sub, I_sub, div_L, rem_L]); omega))) ?_
  refine xlp_cnt 32 (fun m s T => s = I m ∧ Fr (fun f b => f = 0 ∧ b = a) h.c T.c ∧ T.sz = h.sz ∧ T.rc = h.rc ∧ T.rs = h.rs ∧ T.kd a = (40, n) ∧ T.ai a = clI (clK r k) k m) ⟨rfl, hF, e1, e2, e3, hkT, hT⟩ ?_
  clear hF e1 e2 e3 hkT hT T
  rintro m _ T K2 hm ⟨rfl, hF, e1, e2, e3, hkT, hT⟩ hK2
  by_cases e : m = 32
  · subst e
    refine brT (by (first | omega | ((try simp (disch := omega) only [L_le, le_L, L_lt, lt_L, eq_L, L_eq, I_le, I_lt, I_eq, I_ni, add_L, L_add, I_add, mul_L, L_mul, I_mul, sub_L, L_sub, I_sub, div_L, rem_L]); done) | ((try simp (disch := omega) only [L_le, le_L, L_lt, lt_L, eq_L, L_eq, I_le, I_lt, I_eq, I_ni, add_L, L_add, I_add, mul_L, L_mul, I_mul, sub_L, L_sub, I_sub, div_L, rem_L]); omega))) ?_
    (try simp (disch := omega) only [L_le, le_L, L_lt, lt_L, eq_L, L_eq, I_le, I_lt, I_eq, I_ni, add_L, L_add, I_add, mul_L, L_mul, I_mul, sub_L, L_sub, I_sub, div_L, rem_L])
    exact hK _ _ hk32 ⟨rfl, hF, e1, e2, e3, hkT, hT⟩
  refine brF (by (first | omega | ((try simp (disch := omega) only [L_le, le_L, L_lt, lt_L, eq_L, L_eq, I_le, I_lt, I_eq, I_ni, add_L, L_add, I_add, mul_L, L_mul, I_mul, sub_L, L_sub, I_sub, div_L, rem_L]); done) | ((try simp (disch := omega) only [L_le, le_L, L_lt, lt_L, eq_L, L_eq, I_le, I_lt, I_eq, I_ni, add_L, L_add, I_add, mul_L, L_mul, I_mul, sub_L, L_sub, I_sub, div_L, rem_L]); omega))) ⟨ix_of rfl hkT (by omega) hn2, ?_⟩
  refine px_has (h := T.srm 0 0) hk32 (pu ?_)
  rw [adr_some, I_ni (by omega), hT]
  (try simp (disch := omega) only [L_le, le_L, L_lt, lt_L, eq_L, L_eq, I_le, I_lt, I_eq, I_ni, add_L, L_add, I_add, mul_L, L_mul, I_mul, sub_L, L_sub, I_sub, div_L, rem_L])
  by_cases hb : bt (clI (clK r k) k m m) k = true
  · rw [if_pos hb]
    refine brF (by decide) ⟨ix_of rfl hkT (by omega) hn2, ix_of rfl hkT (by omega) hn2, ix_of rfl hkT (by omega) hn2, ?_⟩
    rintro _ rfl
    refine hK2 _ _ (by omega) ⟨rfl, hF.sai _ _ (fun _ => ⟨rfl, rfl⟩), e1, e2, e3, hkT, ?_⟩
    rw [sai_ai, if_pos rfl, hT]
    simp only [clI, hb, if_true]
  · rw [if_neg hb]
    refine brT rfl ?_
    refine hK2 _ _ (by omega) ⟨rfl, hF, e1, e2, e3, hkT, ?_⟩
    rw [hT]
    simp only [clI, hb]
    rfl

theorem px_onItself {a n : Nat} {r : Nat → Int32} (hk : h.kd a = (40, n)) (hn : 32 ≤ n) (hn2 : n < 2147483648) (hr : h.ai a = r) {Q : Int32 → AH → Prop} (hQ : Q (oI (fself r)) h) : wp_X0_onItself (some a) h Q := by
  unfold wp_X0_onItself
  refine xlp_cnt 32 (fun k s T => s = I k ∧ T = h ∧ fstN (fun o => bt (r o) o) k = none) ⟨rfl, rfl, rfl⟩ ?_
  rintro k _ T K hk' ⟨rfl, rfl, hf⟩ hK
  by_cases e : k = 32
  · subst e
    refine brT (by (first | omega | ((try simp (disch := omega) only [L_le, le_L, L_lt, lt_L, eq_L, L_eq, I_le, I_lt, I_eq, I_ni, add_L, L_add, I_add, mul_L, L_mul, I_mul, sub_L, L_sub, I_sub, div_L, rem_L]); done) | ((try simp (disch := omega) only [L_le, le_L, L_lt, lt_L, eq_L, L_eq, I_le, I_lt, I_eq, I_ni, add_L, L_add, I_add, mul_L, L_mul, I_mul, sub_L, L_sub, I_sub, div_L, rem_L]); omega))) ?_
    rw [fself, hf] at hQ; exact hQ
  refine brF (by (first | omega | ((try simp (disch := omega) only [L_le, le_L, L_lt, lt_L, eq_L, L_eq, I_le, I_lt, I_eq, I_ni, add_L, L_add, I_add, mul_L, L_mul, I_mul, sub_L, L_sub, I_sub, div_L, rem_L]); done) | ((try simp (disch := omega) only [L_le, le_L, L_lt, lt_L, eq_L, L_eq, I_le, I_lt, I_eq, I_ni, add_L, L_add, I_add, mul_L, L_mul, I_mul, sub_L, L_sub, I_sub, div_L, rem_L]); omega))) ⟨ix_of rfl hk (by omega) hn2, ?_⟩
  refine px_has (h := T.srm 0 0) (by omega) (pu ?_)
  rw [adr_some, I_ni (by omega), hr]
  (try simp (disch := omega) only [L_le, le_L, L_lt, lt_L, eq_L, L_eq, I_le, I_lt, I_eq, I_ni, add_L, L_add, I_add, mul_L, L_mul, I_mul, sub_L, L_sub, I_sub, div_L, rem_L])
  by_cases hb : bt (r k) k = true
  · rw [if_pos hb]
    refine brF (by decide) ?_
    rw [fself, (fstN_some (P := fun o => bt (r o) o)).2 ⟨by omega, hb, fstN_none.1 hf⟩] at hQ; exact hQ
  · rw [if_neg hb]
    refine brT rfl (hK _ _ (by omega) ⟨rfl, rfl, fstN_none.2 (fun j hj => ?_)⟩)
    by_cases e : j = k
    · rw [e]; simpa using hb
    · exact fstN_none.1 hf j (by omega)
end
section
variable {G : Gv} {h : AH} {L : GA}

/-- what is induced lies in the symbols. -/
def Ind (c : HC) (L : GA) (G : Gv) (ind : Nat → Int32) : Prop := ∀ s a, s < G.nS → a < 8 → c.ai (L.si s) a = ind (8 * s + a)
/-- visits lie in the symbols. -/
def Vis (c : HC) (L : GA) (G : Gv) (ind : Nat → Int32) (s : Nat) : Prop :=
  (c.fi 605 (L.sa s) = if G.self ind s then 0 else I (G.vs ind s)) ∧
  (G.self ind s = false → ∀ a, a < G.cnt s → c.ai (L.sv s) a = I (G.vo ind s a))
theorem Vis.n {c : HC} {L : GA} {G : Gv} {ind : Nat → Int32} {s : Nat} (h9 : Vis c L G ind s) : c.fi 605 (L.sa s) = if G.self ind s then 0 else I (G.vs ind s) := h9.1
theorem Vis.v {c : HC} {L : GA} {G : Gv} {ind : Nat → Int32} {s : Nat} (h9 : Vis c L G ind s) : G.self ind s = false → ∀ a, a < G.cnt s → c.ai (L.sv s) a = I (G.vo ind s a) := h9.2

/-- ins or outs of a visit, of a symbol alone. -/
noncomputable def Gv.atV (G : Gv) (ind : Nat → Int32) (s v : Nat) (out : Bool) : Int32 :=
  ofB (fun a => decide (a < G.cnt s ∧ (decide (G.ins s ≤ a) = out) ∧ G.vo ind s a = v))

theorem ofBN_zero' {P : Nat → Bool} : ∀ {n : Nat}, (∀ x, x < n → P x = false) → ofBN P n = 0
  | 0, _ => rfl
  | n + 1, h => by
    simp only [ofBN]
    rw [if_neg (by rw [h n (by omega)]; simp)]
    exact ofBN_zero' (fun x hx => h x (by omega))
theorem ofBN_skip' {P : Nat → Bool} {n : Nat} : ∀ m, n ≤ m → (∀ x, n ≤ x → x < m → P x = false) → ofBN P m = ofBN P n := by
  intro m
  induction m with
  | zero => intro h _; have : n = 0 := by omega
            rw [this]
  | succ m ih =>
    intro h hn
    by_cases e : n = m + 1
    · rw [e]
    · simp only [ofBN]
      rw [if_neg (by rw [hn m (by omega) (by omega)]; simp)]
      exact ih (by omega) (fun o h1 h2 => hn o h1 (by omega))
theorem or_zero' (x : Int32) : x ||| 0 = x := by
  apply bt_ext; intro k _; rw [bt_or, bt_zero]; simp

theorem px_of (W : G.WF) {ind : Nat → Int32} {s v : Nat} (hs : s < G.nS) (S : SyR h.c L G s) (hB : G.VB ind s) (hV : ∀ a, a < G.cnt s → h.c.ai (L.sv s) a = I (G.vo ind s a)) (hv : v < 1000) (out : Bool)
    {Q : Int32 → AH → Prop} (hQ : Q (G.atV ind s v out) h) : wp_X5_of (L.sa s) (I v) (if out then 1 else 0) h Q := by
  have hi := W.ins s hs
  have hic := W.ic s hs
  have hc := W.cnt8 hs
  have ei : h.fi 602 (L.sa s) = I (G.ins s) := S.ins
  have v1 : h.fr 604 (L.sa s) = some (L.sv s) := S.v1
  let P : Nat → Bool := fun a => decide (a < G.cnt s ∧ (decide (G.ins s ≤ a) = out) ∧ G.vo ind s a = v)
  let lo : Nat := if out then G.ins s else 0
  let hi' : Nat := if out then G.cnt s else G.ins s
  have hPf : ∀ a, ¬ (lo ≤ a ∧ a < hi') → P a = false := by
    intro a ha
    refine decide_eq_false (fun hh => ha ?_)
    cases out with
    | true => exact ⟨by have := of_decide_eq_true hh.2.1; exact this, hh.1⟩
    | false =>
      have := of_decide_eq_false hh.2.1
      exact ⟨Nat.zero_le _, by show a < G.ins s; omega⟩
  have hlo : lo ≤ hi' := by cases out <;> simp [lo, hi'] <;> omega
  have hhi : hi' ≤ 8 := by cases out <;> simp [hi'] <;> omega
  unfold wp_X5_of
  refine ⟨fun x T => x = I lo ∧ T = h, ?_, ?_⟩
  · cases out with
    | true =>
      refine brF (by decide) ⟨nn_of rfl S.k, ?_, rfl⟩
      rw [ei]; rfl
    | false => exact brT rfl ⟨rfl, rfl⟩
  · rintro x T ⟨rfl, rfl⟩
    refine xlp_cnt (hi' - lo) (fun n q T' => q = (ofBN P (lo + n), I (lo + n)) ∧ T' = T) ⟨by rw [ofBN_zero' (fun x hx => hPf x (by omega))]; rfl, rfl⟩ ?_
    rintro n _ T' K hn ⟨rfl, rfl⟩ hK
    refine ⟨fun x T2 => x = I hi' ∧ T2 = T', ?_, ?_⟩
    · cases out with
      | true =>
        refine brF (by decide) ⟨nn_of rfl S.k, ?_⟩
        refine px_count (h := T'.srm 0 0) S (pu ?_)
        exact ⟨rfl, rfl⟩
      | false =>
        refine brT rfl ⟨nn_of rfl S.k, ?_, rfl⟩
        rw [ei]; rfl
    · rintro x T2 ⟨rfl, rfl⟩
      (try simp (disch := omega) only [L_le, le_L, L_lt, lt_L, eq_L, L_eq, I_le, I_lt, I_eq, I_ni, add_L, L_add, I_add, mul_L, L_mul, I_mul, sub_L, L_sub, I_sub, div_L, rem_L])
      by_cases e : hi' ≤ lo + n
      · refine brT e ?_
        rw [show ofBN P (lo + n) = ofB P from (ofBN_skip' 32 (by omega) (fun x h1 h2 => hPf x (by omega))).symm]
        exact hQ
      · refine brF e ⟨nn_of rfl S.k, ix_of v1 S.v2 (by omega) (by decide), ?_⟩
        rintro m rfl
        have hcn : lo + n < G.cnt s := by
          cases out with
          | true => simp only [hi', if_true] at e; omega
          | false => simp only [hi'] at e; simp at e; omega
        have hvx := hV (lo + n) hcn
        simp only [pc_ai] at hvx
        have b1 := hB.vo9 _ hcn
        have b2 := hB.vs9
        refine hK _ _ (by omega) ⟨?_, rfl⟩
        rw [v1, adr_some, hvx]
        refine Prod.ext ?_ rfl
        show _ = if P (lo + n) then ofBN P (lo + n) ||| jshl 1 (I (lo + n)) else ofBN P (lo + n)
        have hside : decide (G.ins s ≤ lo + n) = out := by
          cases out with
          | true => exact decide_eq_true (by show G.ins s ≤ G.ins s + n; omega)
          | false => exact decide_eq_false (by simp only [hi'] at e; simp at e; omega)
        by_cases hv' : G.vo ind s (lo + n) = v
        · have hp1 : P (lo + n) = true := decide_eq_true ⟨hcn, hside, hv'⟩
          rw [if_pos hp1, if_pos (by rw [hv'])]
        · have hp1 : ¬ P (lo + n) = true := fun hh => hv' (of_decide_eq_true hh).2.2
          rw [if_neg hp1, if_neg (fun hh => hv' ((I_eq (by omega) (by omega)).1 hh)), or_zero']

theorem atV_bt {ind : Nat → Int32} {s v : Nat} {out : Bool} {k : Nat} (hk : k < 32) : bt (G.atV ind s v out) k = decide (k < G.cnt s ∧ (decide (G.ins s ≤ k) = out) ∧ G.vo ind s k = v) := ofB_bt _ hk

/-- all of visits ahead. -/
noncomputable def Gv.ahV (G : Gv) (ind : Nat → Int32) (s v : Nat) : Int32 := ofB (fun a => decide (a < G.cnt s ∧ G.vo ind s a < v))

theorem px_ahead (W : G.WF) {ind : Nat → Int32} {s v : Nat} (hs : s < G.nS) (S : SyR h.c L G s) (hB : G.VB ind s) (hV : ∀ a, a < G.cnt s → h.c.ai (L.sv s) a = I (G.vo ind s a)) (hv : v < 1000) (hv1 : 1 ≤ v)
    {Q : Int32 → AH → Prop} (hQ : Q (G.ahV ind s v) h) : wp_X5_ahead (L.sa s) (I v) h Q := by
  unfold wp_X5_ahead
  refine xlp_cnt (v - 1) (fun n q T' => q.2 = I (n + 1) ∧ T' = h ∧ q.1 = G.ahV ind s (n + 1)) ⟨rfl, rfl, ?_⟩ ?_
  · symm
    refine ofBN_zero' (fun x _ => decide_eq_false (fun hh => ?_))
    have := hB.vo1 x hh.1
    omega
  rintro n ⟨q, _⟩ T' K hn ⟨rfl, rfl, hq⟩ hK
  replace hq : q = G.ahV ind s (n + 1) := hq
  subst hq
  (try simp (disch := omega) only [L_le, le_L, L_lt, lt_L, eq_L, L_eq, I_le, I_lt, I_eq, I_ni, add_L, L_add, I_add, mul_L, L_mul, I_mul, sub_L, L_sub, I_sub, div_L, rem_L])
  by_cases e : v ≤ n + 1
  · refine brT e ?_
    have : n + 1 = v := by omega
    show Q (G.ahV ind s (n + 1)) T'
    rw [this]; exact hQ
  refine brF e ⟨nn_of rfl S.k, ?_⟩
  refine px_of (h := T'.srm 0 0) W hs S hB hV (by omega) false (pu ⟨nn_of rfl S.k, ?_⟩)
  refine px_of (h := T'.srm 0 0) W hs S hB hV (by omega) true (pu ?_)
  (try simp (disch := omega) only [L_le, le_L, L_lt, lt_L, eq_L, L_eq, I_le, I_lt, I_eq, I_ni, add_L, L_add, I_add, mul_L, L_mul, I_mul, sub_L, L_sub, I_sub, div_L, rem_L])
  refine hK _ _ (by omega) ⟨rfl, rfl, ?_⟩
  show G.ahV ind s (n + 1) ||| (G.atV ind s (n + 1) false ||| G.atV ind s (n + 1) true) = G.ahV ind s (n + 1 + 1)
  apply bt_ext
  intro k hk
  rw [bt_or, bt_or, atV_bt hk, atV_bt hk, Gv.ahV, ofB_bt _ hk, Gv.ahV, ofB_bt _ hk]
  by_cases h1 : k < G.cnt s
  · by_cases h2 : G.ins s ≤ k <;> by_cases h3 : G.vo ind s k = n + 1
    · have : ¬ G.vo ind s k < n + 1 := by omega
      have : G.vo ind s k < n + 1 + 1 := by omega
      simp [*]
    · have : (G.vo ind s k < n + 1 + 1) = (G.vo ind s k < n + 1) := propext (by omega)
      simp [*]
    · have : ¬ G.vo ind s k < n + 1 := by omega
      have : G.vo ind s k < n + 1 + 1 := by omega
      simp [*]
    · have : (G.vo ind s k < n + 1 + 1) = (G.vo ind s k < n + 1) := propext (by omega)
      simp [*]
  · simp [h1]

/-- what visits tell of an attribute. -/
noncomputable def Gv.byV (G : Gv) (ind : Nat → Int32) (s a : Nat) : Int32 := ofB (fun b => decide (b < G.cnt s ∧ G.hv ind s a b))

theorem px_byVisits (W : G.WF) {ind : Nat → Int32} {s a : Nat} (hs : s < G.nS) (S : SyR h.c L G s) (hB : G.VB ind s) (hV : ∀ a, a < G.cnt s → h.c.ai (L.sv s) a = I (G.vo ind s a)) (ha : a < G.cnt s)
    {Q : Int32 → AH → Prop} (hQ : Q (G.byV ind s a) h) : wp_X6_byVisits (some (L.sa s)) (I a) h Q := by
  have hi := W.ins s hs
  have hc := W.cnt8 hs
  have ei : h.fi 602 (L.sa s) = I (G.ins s) := S.ins
  have v1 : h.fr 604 (L.sa s) = some (L.sv s) := S.v1
  have hva := hV a ha
  simp only [pc_ai] at hva
  have b1 := hB.vo9 a ha
  have b2 := hB.vs9
  have b3 := hB.vo1 a ha
  unfold wp_X6_byVisits
  refine ⟨nn_of rfl S.k, ix_of v1 S.v2 (by omega) (by decide), ?_⟩
  rw [adr_some, v1, adr_some, I_ni (by omega), hva]
  refine px_ahead (h := h.srm 0 0) W hs S hB hV (by omega) b3 (pu ⟨nn_of rfl S.k, ?_⟩)
  rw [ei]
  by_cases e : a < G.ins s
  · refine brT (by (first | omega | ((try simp (disch := omega) only [L_le, le_L, L_lt, lt_L, eq_L, L_eq, I_le, I_lt, I_eq, I_ni, add_L, L_add, I_add, mul_L, L_mul, I_mul, sub_L, L_sub, I_sub, div_L, rem_L]); done) | ((try simp (disch := omega) only [L_le, le_L, L_lt, lt_L, eq_L, L_eq, I_le, I_lt, I_eq, I_ni, add_L, L_add, I_add, mul_L, L_mul, I_mul, sub_L, L_sub, I_sub, div_L, rem_L]); omega))) ?_
    have : G.ahV ind s (G.vo ind s a) ||| 0 = G.byV ind s a := by
      apply bt_ext
      intro k hk
      rw [or_zero', Gv.ahV, Gv.byV, ofB_bt _ hk, ofB_bt _ hk]
      have : (k < G.cnt s ∧ G.vo ind s k < G.vo ind s a) ↔ (k < G.cnt s ∧ G.hv ind s a k) := by
        unfold Gv.hv
        constructor
        · rintro ⟨x, y⟩; exact ⟨x, .inl y⟩
        · rintro ⟨x, y | y⟩
          · exact ⟨x, y⟩
          · omega
      rw [Bool.eq_iff_iff, decide_eq_true_iff, decide_eq_true_iff]; exact this
    rw [this]; exact hQ
  · refine brF (by (first | omega | ((try simp (disch := omega) only [L_le, le_L, L_lt, lt_L, eq_L, L_eq, I_le, I_lt, I_eq, I_ni, add_L, L_add, I_add, mul_L, L_mul, I_mul, sub_L, L_sub, I_sub, div_L, rem_L]); done) | ((try simp (disch := omega) only [L_le, le_L, L_lt, lt_L, eq_L, L_eq, I_le, I_lt, I_eq, I_ni, add_L, L_add, I_add, mul_L, L_mul, I_mul, sub_L, L_sub, I_sub, div_L, rem_L]); omega))) ⟨ix_of v1 S.v2 (by omega) (by decide), ?_⟩
    rw [v1, adr_some, hva]
    refine px_of (h := h.srm 0 0) W hs S hB hV (by omega) false (pu ?_)
    have : G.ahV ind s (G.vo ind s a) ||| G.atV ind s (G.vo ind s a) false = G.byV ind s a := by
      apply bt_ext
      intro k hk
      rw [bt_or, Gv.ahV, Gv.byV, ofB_bt _ hk, ofB_bt _ hk, atV_bt hk]
      rw [Bool.eq_iff_iff, Bool.or_eq_true, decide_eq_true_iff, decide_eq_true_iff, decide_eq_true_iff]
      unfold Gv.hv
      constructor
      · rintro (⟨x, y⟩ | ⟨x, y, z⟩)
        · exact ⟨x, .inl y⟩
        · have := of_decide_eq_false y
          exact ⟨x, .inr ⟨z, by omega, by omega⟩⟩
      · rintro ⟨x, y | ⟨y, z, w⟩⟩
        · exact .inl ⟨x, y⟩
        · exact .inr ⟨x, decide_eq_false (by omega), y⟩
    rw [this]; exact hQ
end
section
variable {G : Gv} {h : AH} {L : GA}

noncomputable def Gv.rowF (G : Gv) (ind : Nat → Int32) (i v : Bool) (p o : Nat) : Int32 :=
  if G.oc p o then
    (if v then (if i then G.ask p o ||| jshl (ind (8 * G.sy p (o / 8) + o % 8)) (I (8 * (o / 8))) else G.ask p o) ||| jshl (G.byV ind (G.sy p (o / 8)) (o % 8)) (I (8 * (o / 8)))
     else (if i then G.ask p o ||| jshl (ind (8 * G.sy p (o / 8) + o % 8)) (I (8 * (o / 8))) else G.ask p o))
  else G.ask p o

theorem Gv.rowF_ask {ind : Nat → Int32} {p o : Nat} : G.rowF ind false false p o = G.ask p o := by unfold Gv.rowF; split <;> rfl
theorem Gv.rowF_rI {ind : Nat → Int32} {p o : Nat} : G.rowF ind true false p o = G.rI ind p o := by unfold Gv.rowF Gv.rI Gv.addI; split <;> rfl
theorem Gv.rowF_rV (W : G.WF) {ind : Nat → Int32} {p o : Nat} (hp : p < G.nP) (ho : o < 32) : G.rowF ind true true p o = G.rV ind p o := by
  show _ = G.rI ind p o ||| ofB (fun x => decide (G.oc p o ∧ x / 8 = o / 8 ∧ x % 8 < G.cnt (G.sy p (o / 8)) ∧ G.hv ind (G.sy p (o / 8)) (o % 8) (x % 8)))
  by_cases hoc : G.oc p o
  · have hs := W.ocS hp hoc
    have hc := W.cnt8 hs
    unfold Gv.rowF Gv.rI Gv.addI
    rw [if_pos hoc, if_pos hoc, if_pos rfl, if_pos rfl]
    apply bt_ext
    intro k hk
    rw [bt_or, bt_or, bt_or, bt_or]
    congr 1
    rw [bt_shl _ (by omega), ofB_bt _ hk]
    by_cases h1 : k < 8 * (o / 8)
    · have : ¬ k / 8 = o / 8 := by omega
      simp [h1, this]
    · have h2 : k - 8 * (o / 8) < 32 := by omega
      rw [Gv.byV, ofB_bt _ h2]
      by_cases h3 : k - 8 * (o / 8) < 8
      · have e1 : k / 8 = o / 8 := by omega
        have e2 : k - 8 * (o / 8) = k % 8 := by omega
        simp [h1, hk, hoc, e1, e2]
      · have e1 : ¬ k / 8 = o / 8 := by omega
        have e2 : ¬ k - 8 * (o / 8) < G.cnt (G.sy p (o / 8)) := by omega
        simp [e1, e2]
  · unfold Gv.rowF Gv.rI Gv.addI
    rw [if_neg hoc, if_neg hoc]
    have : ofB (fun x => decide (G.oc p o ∧ x / 8 = o / 8 ∧ x % 8 < G.cnt (G.sy p (o / 8)) ∧ G.hv ind (G.sy p (o / 8)) (o % 8) (x % 8))) = 0 :=
      ofBN_zero' (fun x _ => decide_eq_false (fun hh => hoc hh.1))
    rw [this, or_zero']

theorem SyR.keep {W c c' s} (S : SyR c L G s) (F : Fr W c c') (h1 : ∀ f, f = 601 ∨ f = 602 ∨ f = 603 ∨ f = 604 → ¬ W f (L.sa s)) (h2 : ¬ W 2302 (L.nl s)) : SyR c' L G s :=
  ⟨by rw [F.kd _ S.l]; exact S.k, Nat.lt_of_lt_of_le S.l F.sz, by rw [F.fr _ _ S.l (h1 _ (by simp))]; exact S.nf, by rw [F.kd _ S.nll]; exact S.nk, Nat.lt_of_lt_of_le S.nll F.sz,
   by rw [F.fi _ _ S.nll h2]; exact S.nsz, by rw [F.fi _ _ S.l (h1 _ (by simp))]; exact S.ins, by rw [F.fr _ _ S.l (h1 _ (by simp))]; exact S.i1, by rw [F.kd _ S.i3]; exact S.i2, Nat.lt_of_lt_of_le S.i3 F.sz,
   by rw [F.fr _ _ S.l (h1 _ (by simp))]; exact S.v1, by rw [F.kd _ S.v3]; exact S.v2, Nat.lt_of_lt_of_le S.v3 F.sz⟩

theorem PrR.keep {W c c' p} (S : PrR c L G p) (F : Fr W c c') (h1 : ∀ f, f = 701 ∨ f = 703 → ¬ W f (L.pa p)) (h2 : ¬ W 2302 (L.ql p)) (h3 : ¬ W 2301 (L.ql p)) (h4 : ¬ W 0 (L.qd p)) (h5 : ¬ W 0 (L.pk p)) : PrR c' L G p :=
  ⟨by rw [F.kd _ S.l]; exact S.k, Nat.lt_of_lt_of_le S.l F.sz, by rw [F.fr _ _ S.l (h1 _ (by simp))]; exact S.sf, S.sl.keep F h2 h3 h4, by rw [F.fr _ _ S.l (h1 _ (by simp))]; exact S.k1,
   by rw [F.kd _ S.k3]; exact S.k2, Nat.lt_of_lt_of_le S.k3 F.sz, fun o ho => by rw [F.ai _ S.k3 h5]; exact S.k4 o ho⟩

/-- what a walk over a grammar may not write. -/
def GW (W : Nat → Nat → Prop) (L : GA) (G : Gv) : Prop :=
  (∀ a, ¬ W 601 a ∧ ¬ W 602 a ∧ ¬ W 603 a ∧ ¬ W 604 a ∧ ¬ W 701 a ∧ ¬ W 703 a) ∧
  (∀ s, s < G.nS → ¬ W 2302 (L.nl s)) ∧
  (∀ p, p < G.nP → ¬ W 2302 (L.ql p) ∧ ¬ W 2301 (L.ql p) ∧ ¬ W 0 (L.qd p) ∧ ¬ W 0 (L.pk p))
theorem GW.f {W : Nat → Nat → Prop} {L : GA} {G : Gv} (h9 : GW W L G) : ∀ a, ¬ W 601 a ∧ ¬ W 602 a ∧ ¬ W 603 a ∧ ¬ W 604 a ∧ ¬ W 701 a ∧ ¬ W 703 a := h9.1
theorem GW.n {W : Nat → Nat → Prop} {L : GA} {G : Gv} (h9 : GW W L G) : ∀ s, s < G.nS → ¬ W 2302 (L.nl s) := h9.2.1
theorem GW.q {W : Nat → Nat → Prop} {L : GA} {G : Gv} (h9 : GW W L G) : ∀ p, p < G.nP → ¬ W 2302 (L.ql p) ∧ ¬ W 2301 (L.ql p) ∧ ¬ W 0 (L.qd p) ∧ ¬ W 0 (L.pk p) := h9.2.2

theorem GS.keep {W c c'} (S : GS c L G) (F : Fr W c c') (hW : GW W L G) : GS c' L G := by
  refine ⟨?_, ?_⟩
  · intro s hs
    refine (S.sy s hs).keep F ?_ (hW.n s hs)
    have := hW.f (L.sa s)
    rintro f (rfl | rfl | rfl | rfl)
    · exact this.1
    · exact this.2.1
    · exact this.2.2.1
    · exact this.2.2.2.1
  · intro p hp
    refine (S.pr p hp).keep F ?_ (hW.q p hp).1 (hW.q p hp).2.1 (hW.q p hp).2.2.1 (hW.q p hp).2.2.2
    have := hW.f (L.pa p)
    rintro f (rfl | rfl)
    · exact this.2.2.2.2.1
    · exact this.2.2.2.2.2
theorem GW.zero : GW W0 L G := ⟨fun _ => ⟨id, id, id, id, id, id⟩, fun _ _ => id, fun _ _ => ⟨id, id, id, id⟩⟩
theorem Ind.keep {W c c' ind} (S : GS c L G) (D : Ind c L G ind) (F : Fr W c c') (hW : ∀ s, s < G.nS → ¬ W 0 (L.si s)) : Ind c' L G ind :=
  fun s a hs ha => by rw [F.ai _ (S.sy s hs).i3 (hW s hs)]; exact D s a hs ha
theorem Vis.keep {W c c' ind s} (S : SyR c L G s) (D : Vis c L G ind s) (F : Fr W c c') (h1 : ¬ W 605 (L.sa s)) (h2 : ¬ W 0 (L.sv s)) : Vis c' L G ind s :=
  ⟨by rw [F.fi _ _ S.l h1]; exact D.n, fun hs a ha => by rw [F.ai _ S.v3 h2]; exact D.v hs a ha⟩

theorem px_rows (W : G.WF) (S : GS h.c L G) {ind : Nat → Int32} (i v : Bool) (hI : i = true → Ind h.c L G ind) {p : Nat} (hp : p < G.nP)
    (hV : v = true → ∀ k, k ≤ G.kn p → G.VB ind (G.sy p k) ∧ ∀ a, a < G.cnt (G.sy p k) → h.c.ai (L.sv (G.sy p k)) a = I (G.vo ind (G.sy p k) a)) (hr : 1 ≤ h.rc) (hs : 32 ≤ h.rs)
    {Q : Option Nat → AH → Prop} (hQ : ∀ h', Fr W0 h.c h'.c → h'.sz = h.sz + 1 → h'.rc = h.rc - 1 → h'.rs = h.rs - 32 → h'.kd h.sz = (40, 32) → (∀ o, o < 32 → h'.ai h.sz o = G.rowF ind i v p o) → Q (some h.sz) h') :
    wp_X6_rows (L.pa p) (if i then 1 else 0) (if v then 1 else 0) h Q := by
  have P := S.pr p hp
  unfold wp_X6_rows
  refine ⟨⟨by decide, by decide, hr, hs⟩, ?_⟩
  rintro _ rfl
  refine xlp_cnt 32 (fun k s T => s = I k ∧ Fr W0 h.c T.c ∧ T.sz = h.sz + 1 ∧ T.rc = h.rc - 1 ∧ T.rs = h.rs - 32 ∧ T.kd h.sz = (40, 32) ∧ (∀ o, o < k → T.ai h.sz o = G.rowF ind i v p o)) ⟨rfl, (Fr.refl _).new _ _ _, rfl, rfl, rfl, ?_, fun o ho => by omega⟩ ?_
  · rw [new_kd, if_pos rfl]; rfl
  rintro k _ T K hk ⟨rfl, hF, e1, e2, e3, hkT, hT⟩ hK
  by_cases e : k = 32
  · subst e
    exact brT (by (first | omega | ((try simp (disch := omega) only [L_le, le_L, L_lt, lt_L, eq_L, L_eq, I_le, I_lt, I_eq, I_ni, add_L, L_add, I_add, mul_L, L_mul, I_mul, sub_L, L_sub, I_sub, div_L, rem_L]); done) | ((try simp (disch := omega) only [L_le, le_L, L_lt, lt_L, eq_L, L_eq, I_le, I_lt, I_eq, I_ni, add_L, L_add, I_add, mul_L, L_mul, I_mul, sub_L, L_sub, I_sub, div_L, rem_L]); omega))) (hQ T hF e1 e2 e3 hkT hT)
  have hk32 : k < 32 := by omega
  have ST := S.keep hF GW.zero
  have PT := ST.pr p hp
  refine brF (by (first | omega | ((try simp (disch := omega) only [L_le, le_L, L_lt, lt_L, eq_L, L_eq, I_le, I_lt, I_eq, I_ni, add_L, L_add, I_add, mul_L, L_mul, I_mul, sub_L, L_sub, I_sub, div_L, rem_L]); done) | ((try simp (disch := omega) only [L_le, le_L, L_lt, lt_L, eq_L, L_eq, I_le, I_lt, I_eq, I_ni, add_L, L_add, I_add, mul_L, L_mul, I_mul, sub_L, L_sub, I_sub, div_L, rem_L]); omega))) ⟨nn_of rfl PT.k, ?_⟩
  refine px_asked (h := T.srm 0 0) PT hk32 (pu ?_)
  refine ⟨ix_of rfl hkT hk32 (by decide), ?_⟩
  rintro _ rfl
  -- the row's first state
  have F1 : Fr W0 h.c (T.sai h.sz (ni (I k)) (G.ask p k)).c := hF.sai _ _ (fun hh => absurd hh (Nat.lt_irrefl _))
  have S1 := S.keep F1 GW.zero
  have P1 := S1.pr p hp
  have en : ni (I k) = k := I_ni (by omega)
  refine ⟨nn_of rfl P1.k, ?_⟩
  refine px_isOcc (h := (T.sai h.sz (ni (I k)) (G.ask p k)).srm 0 0) W S1 hp (by omega) (pu ?_)
  rw [en] at F1 S1 P1 ⊢
  have a1 : (T.sai h.sz k (G.ask p k)).ai h.sz = updN (T.ai h.sz) k (G.ask p k) := by rw [sai_ai, if_pos rfl]
  -- how a row is done
  have fin : ∀ T' : AH, Fr W0 h.c T'.c → T'.sz = h.sz + 1 → T'.rc = h.rc - 1 → T'.rs = h.rs - 32 → T'.kd h.sz = (40, 32) → T'.ai h.sz = updN (T.ai h.sz) k (G.rowF ind i v p k) → K (I (k + 1)) T' := by
    intro T' f1 f2 f3 f4 f5 f6
    refine hK _ _ hk32 ⟨rfl, f1, f2, f3, f4, f5, fun o ho => ?_⟩
    rw [f6]
    by_cases e : o = k
    · rw [e, updN_same]
    · rw [updN_ne _ _ e]; exact hT o (by omega)
  by_cases hoc : G.oc p k
  · rw [if_pos hoc]
    have sf1 : (T.sai h.sz k (G.ask p k)).fr 701 (L.pa p) = some (L.ql p) := P1.sf
    refine brF (by decide) ⟨nn_of rfl P1.k, nn_of sf1 P1.sl.k, ?_⟩
    rw [sf1, adr_some]
    (try simp (disch := omega) only [L_le, le_L, L_lt, lt_L, eq_L, L_eq, I_le, I_lt, I_eq, I_ni, add_L, L_add, I_add, mul_L, L_mul, I_mul, sub_L, L_sub, I_sub, div_L, rem_L])
    refine px_sym (h := (T.sai h.sz k (G.ask p k)).srm 0 0) P1 hoc.2.1 (pu ?_)
    have hsy := W.ocS hp hoc
    have Y1 := S1.sy _ hsy
    have hc8 := W.cnt8 hsy
    have hkc := hoc.2.2
    refine ⟨.inr (nn_of rfl Y1.k), ?_⟩
    let x1 : Int32 := if i then G.ask p k ||| jshl (ind (8 * G.sy p (k / 8) + k % 8)) (I (8 * (k / 8))) else G.ask p k
    refine ⟨fun _ T' => Fr W0 h.c T'.c ∧ T'.sz = h.sz + 1 ∧ T'.rc = h.rc - 1 ∧ T'.rs = h.rs - 32 ∧ T'.kd h.sz = (40, 32) ∧ T'.ai h.sz = updN (T.ai h.sz) k x1, ?_, ?_⟩
    · cases hi : i with
      | false => exact brT rfl ⟨F1, e1, e2, e3, hkT, by rw [a1]; simp only [x1, hi]; rfl⟩
      | true =>
        have i1 : (T.sai h.sz k (G.ask p k)).fr 603 (L.sa (G.sy p (k / 8))) = some (L.si (G.sy p (k / 8))) := Y1.i1
        have hx : (T.sai h.sz k (G.ask p k)).ai (L.si (G.sy p (k / 8))) (k % 8) = ind (8 * G.sy p (k / 8) + k % 8) := by
          have D1 := Ind.keep S (hI hi) F1 (fun _ _ => id)
          exact D1 _ _ hsy (by omega)
        refine brF (by decide) ⟨ix_of rfl hkT hk32 (by decide), nn_of rfl Y1.k, ?_⟩
        rw [adr_some, i1]
        refine ⟨ix_of rfl Y1.i2 (by omega) (by decide), ix_of rfl hkT hk32 (by decide), ?_⟩
        rintro _ rfl
        refine ⟨F1.sai _ _ (fun hh => absurd hh (Nat.lt_irrefl _)), e1, e2, e3, hkT, ?_⟩
        rw [sai_ai, if_pos rfl, a1, adr_some, hx, updN_same, show k / 8 * 8 = 8 * (k / 8) by omega]
        funext j
        simp only [updN, x1, hi, if_true]
        split <;> rfl
    · rintro _ T2 ⟨f1, f2, f3, f4, f5, f6⟩
      have S2 := S.keep f1 GW.zero
      have Y2 := S2.sy _ hsy
      cases hv : v with
      | false =>
        refine brT rfl (fin T2 f1 f2 f3 f4 f5 ?_)
        rw [f6]
        have er : G.rowF ind i false p k = x1 := by
          show (if G.oc p k then _ else _) = _
          rw [if_pos hoc]; rfl
        rw [hv, er]
      | true =>
        obtain ⟨vb, va⟩ := hV hv (k / 8) hoc.2.1
        refine brF (by decide) ⟨ix_of rfl f5 hk32 (by decide), ?_⟩
        refine px_byVisits (h := T2.srm 0 0) W hsy Y2 vb (fun a ha => ?_) (by omega) (pu ?_)
        · show T2.c.ai _ a = _
          rw [f1.ai _ (S.sy _ hsy).v3 id]; exact va a ha
        refine ⟨ix_of rfl f5 hk32 (by decide), ?_⟩
        rintro _ rfl
        refine fin _ (f1.sai _ _ (fun hh => absurd hh (Nat.lt_irrefl _))) f2 f3 f4 f5 ?_
        have er : G.rowF ind i true p k = x1 ||| jshl (G.byV ind (G.sy p (k / 8)) (k % 8)) (I (8 * (k / 8))) := by
          show (if G.oc p k then _ else _) = _
          rw [if_pos hoc]; rfl
        rw [sai_ai, if_pos rfl, f6, updN_same, show k / 8 * 8 = 8 * (k / 8) by omega, hv, er]
        funext j
        simp only [updN]
        split <;> rfl
  · rw [if_neg hoc]
    refine brT rfl ?_
    (try simp (disch := omega) only [L_le, le_L, L_lt, lt_L, eq_L, L_eq, I_le, I_lt, I_eq, I_ni, add_L, L_add, I_add, mul_L, L_mul, I_mul, sub_L, L_sub, I_sub, div_L, rem_L])
    refine fin _ F1 e1 e2 e3 hkT ?_
    rw [a1]; simp only [Gv.rowF, hoc, if_false]
end
section
variable {G : Gv} {h : AH} {L : GA}

/-- arrays of symbols are each its own. -/
def GD (L : GA) (G : Gv) : Prop :=
  (∀ s t, s < G.nS → t < G.nS → L.sa s = L.sa t → s = t) ∧
  (∀ s t, s < G.nS → t < G.nS → L.si s = L.si t → s = t) ∧
  (∀ s t, s < G.nS → t < G.nS → L.sv s = L.sv t → s = t) ∧
  (∀ s t, s < G.nS → t < G.nS → L.si s ≠ L.sv t) ∧
  (∀ s p, s < G.nS → p < G.nP → L.si s ≠ L.qd p ∧ L.si s ≠ L.pk p ∧ L.sv s ≠ L.qd p ∧ L.sv s ≠ L.pk p) ∧
  (∀ p q, p < G.nP → q < G.nP → L.pp p = L.pp q → p = q) ∧
  (∀ p q, p < G.nP → q < G.nP → L.pp p ≠ L.qd q ∧ L.pp p ≠ L.pk q) ∧
  (∀ p s, p < G.nP → s < G.nS → L.pp p ≠ L.si s ∧ L.pp p ≠ L.sv s) ∧
  (∀ p q, p < G.nP → q < G.nP → L.pa p = L.pa q → p = q)
theorem GD.sa {L : GA} {G : Gv} (h9 : GD L G) : ∀ s t, s < G.nS → t < G.nS → L.sa s = L.sa t → s = t := h9.1
theorem GD.si {L : GA} {G : Gv} (h9 : GD L G) : ∀ s t, s < G.nS → t < G.nS → L.si s = L.si t → s = t := h9.2.1
theorem GD.sv {L : GA} {G : Gv} (h9 : GD L G) : ∀ s t, s < G.nS → t < G.nS → L.sv s = L.sv t → s = t := h9.2.2.1
theorem GD.sisv {L : GA} {G : Gv} (h9 : GD L G) : ∀ s t, s < G.nS → t < G.nS → L.si s ≠ L.sv t := h9.2.2.2.1
theorem GD.siq {L : GA} {G : Gv} (h9 : GD L G) : ∀ s p, s < G.nS → p < G.nP → L.si s ≠ L.qd p ∧ L.si s ≠ L.pk p ∧ L.sv s ≠ L.qd p ∧ L.sv s ≠ L.pk p := h9.2.2.2.2.1
theorem GD.pp {L : GA} {G : Gv} (h9 : GD L G) : ∀ p q, p < G.nP → q < G.nP → L.pp p = L.pp q → p = q := h9.2.2.2.2.2.1
theorem GD.ppq {L : GA} {G : Gv} (h9 : GD L G) : ∀ p q, p < G.nP → q < G.nP → L.pp p ≠ L.qd q ∧ L.pp p ≠ L.pk q := h9.2.2.2.2.2.2.1
theorem GD.pps {L : GA} {G : Gv} (h9 : GD L G) : ∀ p s, p < G.nP → s < G.nS → L.pp p ≠ L.si s ∧ L.pp p ≠ L.sv s := h9.2.2.2.2.2.2.2.1
theorem GD.pa {L : GA} {G : Gv} (h9 : GD L G) : ∀ p q, p < G.nP → q < G.nP → L.pa p = L.pa q → p = q := h9.2.2.2.2.2.2.2.2

/-- what inducing writes. -/
def WI (L : GA) (G : Gv) : Nat → Nat → Prop := fun f b => f = 0 ∧ ∃ s, s < G.nS ∧ b = L.si s
theorem GW.wi (D : GD L G) : GW (WI L G) L G := by
  refine ⟨fun a => ⟨?_, ?_, ?_, ?_, ?_, ?_⟩, fun s hs => ?_, fun p hp => ⟨?_, ?_, ?_, ?_⟩⟩ <;> rintro ⟨h0, s', hs', e⟩
  · exact absurd h0 (by decide)
  · exact absurd h0 (by decide)
  · exact absurd h0 (by decide)
  · exact absurd h0 (by decide)
  · exact absurd h0 (by decide)
  · exact absurd h0 (by decide)
  · exact absurd h0 (by decide)
  · exact absurd h0 (by decide)
  · exact absurd h0 (by decide)
  · exact (D.siq s' p hs' hp).1 e.symm
  · exact (D.siq s' p hs' hp).2.1 e.symm

theorem px_induces (W : G.WF) (S : GS h.c L G) (D : GD L G) {ind ind0 : Nat → Int32} (hI : Ind h.c L G ind) (h8 : ∀ i k, bt (ind i) k = true → k < 8) {p o : Nat} (hp : p < G.nP) (hr : 1 ≤ h.rc) (hs : 32 ≤ h.rs)
    {Q : Int32 → AH → Prop} (hQ : ∀ fl h', Fr (WI L G) h.c h'.c → Ind h'.c L G (G.indP ind p) → Flg fl ind (G.indP ind p) → h'.rc = h.rc - 1 → h'.rs = h.rs - 32 → Q fl h') : wp_X3_induces o (some (L.pa p)) h Q := by
  have P := S.pr p hp
  have hS := W.nS
  unfold wp_X3_induces
  refine ⟨nn_of rfl P.k, 1, 32, ⟨hr, hs⟩, ?_⟩
  refine px_rows (h := h.srm 1 32) W S (ind := ind) true false (fun _ => hI) hp (fun hh => absurd hh (by decide)) (Nat.le_refl _) (Nat.le_refl _) ?_
  intro h3 F3 z3 c3 s3 k3 r3
  rintro _ rfl
  refine px_closed (h := (h3.srm (h.rc - 1) (h.rs - 32)).srm 0 0) (a := h.sz) (n := 32) (r := h3.ai h.sz) k3 (Nat.le_refl _) (by decide) rfl ?_
  intro h9 F9 z9 c9 s9 r9
  rintro _ rfl
  -- now the occs
  have F9' : Fr W0 h.c h9.c := by
    refine F3.trans' F9 (fun f a ha hw => ?_)
    have := hw.2
    have ha' : a < h.sz := ha
    omega
  have z9' : h9.sz = h.sz + 1 := z9.trans z3
  have hrow : ∀ x, x < 32 → h9.ai h.sz x = clo (G.rI ind p) x := by
    intro x hx
    rw [r9]
    refine clo_congr (fun y hy => ?_) hx
    show h3.ai h.sz y = _
    exact (r3 y hy).trans Gv.rowF_rI
  have k9 : h9.kd h.sz = (40, 32) := by
    have : h9.c.kd h.sz = h3.c.kd h.sz := F9.kd h.sz (by show h.sz < h3.sz; rw [z3]; exact Nat.lt_succ_self _)
    rw [← k3]; exact this
  have hz : ∀ s, s < G.nS → L.si s ≠ h.sz := fun s hs e => by have := (S.sy s hs).i3; rw [e] at this; exact absurd this (Nat.lt_irrefl _)
  refine xlp_cnt 32 (fun k q T => q.2 = I k ∧ Fr (WI L G) h.c T.c ∧ T.kd h.sz = (40, 32) ∧ T.ai h.sz = h9.ai h.sz ∧ T.rc = h.rc - 1 ∧ T.rs = h.rs - 32 ∧ Ind T.c L G (G.indN p (clo (G.rI ind p)) k ind) ∧ Flg q.1 ind (G.indN p (clo (G.rI ind p)) k ind))
    ⟨rfl, F9'.mono (fun _ _ _ hh => hh.elim), k9, rfl, rfl, rfl, Ind.keep S hI F9' (fun _ _ => id), .inl ⟨rfl, rfl⟩⟩ ?_
  rintro k ⟨fl, _⟩ T K hk ⟨rfl, hF, hkT, hT, e2, e3, hIT, hfl⟩ hK
  replace hfl : Flg fl ind (G.indN p (clo (G.rI ind p)) k ind) := hfl
  by_cases e : k = 32
  · subst e
    refine brT (by (first | omega | ((try simp (disch := omega) only [L_le, le_L, L_lt, lt_L, eq_L, L_eq, I_le, I_lt, I_eq, I_ni, add_L, L_add, I_add, mul_L, L_mul, I_mul, sub_L, L_sub, I_sub, div_L, rem_L]); done) | ((try simp (disch := omega) only [L_le, le_L, L_lt, lt_L, eq_L, L_eq, I_le, I_lt, I_eq, I_ni, add_L, L_add, I_add, mul_L, L_mul, I_mul, sub_L, L_sub, I_sub, div_L, rem_L]); omega))) ⟨?_, hQ fl T hF hIT hfl e2 e3⟩
    rcases hfl with ⟨rfl, _⟩ | ⟨rfl, _⟩
    · exact .inl rfl
    · exact .inr rfl
  have hk32 : k < 32 := by omega
  have ST := S.keep hF (GW.wi D)
  have PT := ST.pr p hp
  refine brF (by (first | omega | ((try simp (disch := omega) only [L_le, le_L, L_lt, lt_L, eq_L, L_eq, I_le, I_lt, I_eq, I_ni, add_L, L_add, I_add, mul_L, L_mul, I_mul, sub_L, L_sub, I_sub, div_L, rem_L]); done) | ((try simp (disch := omega) only [L_le, le_L, L_lt, lt_L, eq_L, L_eq, I_le, I_lt, I_eq, I_ni, add_L, L_add, I_add, mul_L, L_mul, I_mul, sub_L, L_sub, I_sub, div_L, rem_L]); omega))) ⟨nn_of rfl PT.k, ?_⟩
  refine px_isOcc (h := T.srm 0 0) W ST hp (by omega) (pu ?_)
  by_cases hoc : G.oc p k
  · rw [if_pos hoc]
    have sf1 : T.fr 701 (L.pa p) = some (L.ql p) := PT.sf
    refine brF (by decide) ⟨nn_of rfl PT.k, nn_of sf1 PT.sl.k, ?_⟩
    rw [adr_some, sf1, adr_some]
    (try simp (disch := omega) only [L_le, le_L, L_lt, lt_L, eq_L, L_eq, I_le, I_lt, I_eq, I_ni, add_L, L_add, I_add, mul_L, L_mul, I_mul, sub_L, L_sub, I_sub, div_L, rem_L])
    refine px_sym (h := T.srm 0 0) PT hoc.2.1 (pu ?_)
    have hsy := W.ocS hp hoc
    have Y := ST.sy _ hsy
    have hc8 := W.cnt8 hsy
    have hkc := hoc.2.2
    have i1 : T.fr 603 (L.sa (G.sy p (k / 8))) = some (L.si (G.sy p (k / 8))) := Y.i1
    have hx : T.ai (L.si (G.sy p (k / 8))) (k % 8) = G.indN p (clo (G.rI ind p)) k ind (8 * G.sy p (k / 8) + k % 8) := hIT _ _ hsy (by omega)
    refine ⟨.inr (nn_of rfl Y.k), ix_of rfl hkT hk32 (by decide), nn_of rfl Y.k, ?_⟩
    rw [adr_some, i1]
    refine ⟨ix_of rfl Y.i2 (by omega) (by decide), ?_⟩
    rintro m25 rfl
    refine ⟨ix_of rfl Y.i2 (by omega) (by decide), ix_of rfl Y.i2 (by omega) (by decide), ?_⟩
    rintro _ rfl
    rw [adr_some, adr_some, hx, hT, hrow k hk32, show k / 8 * 8 = 8 * (k / 8) by omega]
    have hup := hfl.up (j := 8 * G.sy p (k / 8) + k % 8) (by omega) (x := jushr (clo (G.rI ind p) k) (I (8 * (k / 8))) &&& 255)
      (fun j hj => by rw [its_bt hk32] at hj; simp at hj; exact hj.2) (Gv.indN_sub k)
    have hnew : G.indN p (clo (G.rI ind p)) (k + 1) ind = updN (G.indN p (clo (G.rI ind p)) k ind) (8 * G.sy p (k / 8) + k % 8) (G.indN p (clo (G.rI ind p)) k ind (8 * G.sy p (k / 8) + k % 8) ||| (jushr (clo (G.rI ind p) k) (I (8 * (k / 8))) &&& 255)) := by
      simp only [Gv.indN]
      rw [if_pos hoc]
    rw [← hnew] at hup
    refine hK _ _ hk32 ⟨rfl, hF.sai _ _ (fun _ => ⟨rfl, _, hsy, rfl⟩), hkT, ?_, e2, e3, ?_, ?_⟩
    · rw [sai_ai, if_neg (fun e => hz _ hsy e.symm)]; exact hT
    · intro s a hs' ha
      show (T.sai _ _ _).ai (L.si s) a = _
      rw [sai_ai, hnew]
      by_cases es : s = G.sy p (k / 8)
      · subst es
        rw [if_pos rfl]
        simp only [updN]
        by_cases ea : a = k % 8
        · rw [if_pos ea, if_pos (by omega)]
        · rw [if_neg ea, if_neg (by omega)]; exact hIT _ a hs' ha
      · rw [if_neg (fun e => es (D.si _ _ hs' hsy e)), updN_ne _ _ (by omega)]; exact hIT s a hs' ha
    · show Flg (fl ||| _) _ _
      have e9 : (fl ||| (if (jushr (clo (G.rI ind p) k) (I (8 * (k / 8))) &&& 255) &&& (G.indN p (clo (G.rI ind p)) k ind (8 * G.sy p (k / 8) + k % 8) ^^^ -1) = 0 then 0 else 1)) =
          (if fl = 0 then (if (G.indN p (clo (G.rI ind p)) k ind (8 * G.sy p (k / 8) + k % 8) ||| (jushr (clo (G.rI ind p) k) (I (8 * (k / 8))) &&& 255)) = G.indN p (clo (G.rI ind p)) k ind (8 * G.sy p (k / 8) + k % 8) then 0 else 1) else 1) := by
        have hiff : ((jushr (clo (G.rI ind p) k) (I (8 * (k / 8))) &&& 255) &&& (G.indN p (clo (G.rI ind p)) k ind (8 * G.sy p (k / 8) + k % 8) ^^^ -1) = 0) ↔ (G.indN p (clo (G.rI ind p)) k ind (8 * G.sy p (k / 8) + k % 8) ||| (jushr (clo (G.rI ind p) k) (I (8 * (k / 8))) &&& 255)) = G.indN p (clo (G.rI ind p)) k ind (8 * G.sy p (k / 8) + k % 8) := by
          rw [sub0, or_same]
        rcases hfl with ⟨rfl, _⟩ | ⟨rfl, _⟩
        · by_cases hc : (jushr (clo (G.rI ind p) k) (I (8 * (k / 8))) &&& 255) &&& (G.indN p (clo (G.rI ind p)) k ind (8 * G.sy p (k / 8) + k % 8) ^^^ -1) = 0
          · rw [if_pos hc, if_pos rfl, if_pos (hiff.1 hc)]; rfl
          · rw [if_neg hc, if_pos rfl, if_neg (fun hh => hc (hiff.2 hh))]; rfl
        · rw [if_neg (show ¬ (1 : Int32) = 0 by decide)]
          split <;> decide
      rw [e9]; exact hup
  · rw [if_neg hoc]
    refine brT rfl ?_
    (try simp (disch := omega) only [L_le, le_L, L_lt, lt_L, eq_L, L_eq, I_le, I_lt, I_eq, I_ni, add_L, L_add, I_add, mul_L, L_mul, I_mul, sub_L, L_sub, I_sub, div_L, rem_L])
    have hnew : G.indN p (clo (G.rI ind p)) (k + 1) ind = G.indN p (clo (G.rI ind p)) k ind := by simp only [Gv.indN]; rw [if_neg hoc]
    refine hK _ _ hk32 ⟨rfl, hF, hkT, hT, e2, e3, ?_, ?_⟩
    · rw [hnew]; exact hIT
    · rw [hnew]; exact hfl
end
