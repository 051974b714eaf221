/-! plain: jl2 rg3 -/
set_option maxRecDepth 100000
section
/-- a list is made. -/
theorem pc_initL {h : AH} {a n : Nat} (hk : (h.kd a).1 = 23) (ha : a < h.sz) (hz : h.fi 2302 a = 0) (h1 : 1 ≤ n) (hn : n ≤ 1000) (hr : 1 ≤ h.rc) (hs : n ≤ h.rs) {Q : AH → Prop}
    (hQ : ∀ h', Fr (fun f b => b = a ∧ (f = 2300 ∨ f = 2301)) h.c h'.c → (∀ x, Ls h'.c a h.sz n 0 x) → h'.sz = h.sz + 1 → h'.rc = h.rc - 1 → h'.rs = h.rs - n → Q h') : wp_J12_init a (I n) h Q := by
  unfold wp_J12_init wp_J11_init wp_J10_init
  refine pu (h := h.srm 0 0) ?_
  refine ⟨nn_of rfl hk, ?_⟩
  rintro _ rfl
  rintro _ rfl
  refine brF (by (first | omega | ((try simp (disch := omega) only [L_le, le_L, L_lt, lt_L, eq_L, L_eq, I_le, I_lt, I_eq, I_ni, add_L, L_add, I_add, mul_L, L_mul, I_mul, sub_L, L_sub, I_sub, div_L, rem_L]); done) | ((try simp (disch := omega) only [L_le, le_L, L_lt, lt_L, eq_L, L_eq, I_le, I_lt, I_eq, I_ni, add_L, L_add, I_add, mul_L, L_mul, I_mul, sub_L, L_sub, I_sub, div_L, rem_L]); omega))) ⟨⟨I_nonneg (by omega), by rw [I_ni (by omega)]; omega, ?_⟩, ?_⟩
  · rw [I_ni (by omega)]; exact ⟨hr, hs⟩
  rw [I_ni (by omega)]
  intro h8 e8
  have k8 : (h8.kd a).1 = 23 := by rw [e8, new_kd, if_neg (by show ¬ a = h.sz; omega)]; exact hk
  refine ⟨nn_of rfl k8, ?_⟩
  intro h9 e9
  have F9 : Fr (fun f b => b = a ∧ (f = 2300 ∨ f = 2301)) h.c h9.c := by
    rw [e9, e8]
    exact ((((Fr.refl h.c).sfi (h := h) (F := 2300) (a := a) 0 (fun _ => ⟨rfl, .inl rfl⟩)).new 44 n n).sfr _ (fun _ => ⟨rfl, .inr rfl⟩))
  refine hQ h9 F9 (fun x => ⟨?_, ?_, ?_, ?_, ?_, ?_, Nat.zero_le _, by omega, fun i hi => absurd hi (Nat.not_lt_zero _)⟩) (by rw [e9, e8]; rfl) (by rw [e9, e8]; rfl) (by rw [e9, e8]; rfl)
  · show (h9.kd a).1 = 23
    rw [e9]; exact k8
  · show a < h9.sz
    rw [e9, e8]; show a < h.sz + 1; omega
  · show h9.fi 2302 a = I 0
    rw [e9, e8]
    show ((h.sfi 2300 a 0).new 44 n n).fi 2302 a = I 0
    rw [new_fi, if_neg (by show ¬ a = h.sz; omega), sfi_ne _ _ _ _ (by decide)]
    exact hz
  · show h9.fr 2301 a = some h.sz
    rw [e9, sfr_same]; rfl
  · show h9.kd h.sz = (44, n)
    rw [e9, e8]
    show ((h.sfi 2300 a 0).new 44 n n).kd h.sz = _
    rw [new_kd]; exact if_pos rfl
  · show h.sz < h9.sz
    rw [e9, e8]; show h.sz < h.sz + 1; omega
end
section
variable {G : Gv} {L : GA}

/-- the cache of small integers. -/
def CsI (c : HC) : Prop :=
  (c.bs.2 500 ≠ 0) ∧
  (c.kd (c.bs.2 500 - 1) = (48, 256)) ∧
  (c.bs.2 500 - 1 < c.sz) ∧
  (∀ i, i < 32 → ∃ a, c.ar (c.bs.2 500 - 1) (128 + i) = some a ∧ (c.kd a).1 = 25 ∧ c.fi 2500 a = I i ∧ a < c.sz)
theorem CsI.z {c : HC} (h9 : CsI c) : c.bs.2 500 ≠ 0 := h9.1
theorem CsI.k {c : HC} (h9 : CsI c) : c.kd (c.bs.2 500 - 1) = (48, 256) := h9.2.1
theorem CsI.l {c : HC} (h9 : CsI c) : c.bs.2 500 - 1 < c.sz := h9.2.2.1
theorem CsI.e {c : HC} (h9 : CsI c) : ∀ i, i < 32 → ∃ a, c.ar (c.bs.2 500 - 1) (128 + i) = some a ∧ (c.kd a).1 = 25 ∧ c.fi 2500 a = I i ∧ a < c.sz := h9.2.2.2

theorem CsI.keep {c c' : HC} (K : CsI c) {Wr : Nat → Nat → Prop} (F : Fr Wr c c') (h1 : ¬ Wr 0 (c.bs.2 500 - 1)) (h2 : ∀ a, ¬ Wr 2500 a) : CsI c' := by
  have eb : c'.bs = c.bs := F.bs
  refine ⟨by rw [eb]; exact K.z, by rw [eb, F.kd _ K.l]; exact K.k, by rw [eb]; exact Nat.lt_of_lt_of_le K.l F.sz, fun i hi => ?_⟩
  obtain ⟨a, e1, e2, e3, e4⟩ := K.e i hi
  exact ⟨a, by rw [eb, F.ar _ K.l h1]; exact e1, by rw [F.kd _ e4]; exact e2, by rw [F.fi _ _ e4 (h2 a)]; exact e3, Nat.lt_of_lt_of_le e4 F.sz⟩

theorem px_valueOf32 {h : AH} (K : CsI h.c) {i : Nat} (hi : i < 32) {Q : Option Nat → AH → Prop} (hQ : ∀ a, (h.kd a).1 = 25 → h.fi 2500 a = I i → a < h.sz → Q (some a) h) : wp_J20_valueOf (I i) h Q := by
  unfold wp_J20_valueOf
  have n1 : ¬ I i < -128 := fun hh => by
    have h2 := Int32.lt_iff_toInt_lt.1 hh
    rw [I_toInt (by omega)] at h2
    have e2 : (-128 : Int32).toInt = -128 := by decide
    omega
  refine brF n1 (brF (by (first | omega | ((try simp (disch := omega) only [L_le, le_L, L_lt, lt_L, eq_L, L_eq, I_le, I_lt, I_eq, I_ni, add_L, L_add, I_add, mul_L, L_mul, I_mul, sub_L, L_sub, I_sub, div_L, rem_L]); done) | ((try simp (disch := omega) only [L_le, le_L, L_lt, lt_L, eq_L, L_eq, I_le, I_lt, I_eq, I_ni, add_L, L_add, I_add, mul_L, L_mul, I_mul, sub_L, L_sub, I_sub, div_L, rem_L]); omega))) ?_)
  (try simp (disch := omega) only [L_le, le_L, L_lt, lt_L, eq_L, L_eq, I_le, I_lt, I_eq, I_ni, add_L, L_add, I_add, mul_L, L_mul, I_mul, sub_L, L_sub, I_sub, div_L, rem_L])
  obtain ⟨a, e1, e2, e3, e4⟩ := K.e i hi
  have es : sref (h.cs 500) = some (h.c.bs.2 500 - 1) := by
    show (if h.cs 500 = 0 then none else some (h.cs 500 - 1)) = _
    rw [if_neg (show ¬ h.cs 500 = 0 from K.z)]; rfl
  rw [es, adr_some]
  refine ⟨ix_of rfl K.k (by omega) (by decide), ?_⟩
  have : h.ar (h.c.bs.2 500 - 1) (i + 128) = some a := by rw [Nat.add_comm]; exact e1
  rw [this]
  exact hQ a e2 e3 e4

/-- how a search for ways lies there. -/
def CiS (c0 : HC) (R A : Nat) (row : Nat → Int32) (U : AH) (f : Nat → Nat) (r1 r2 : Nat) : Prop :=
  (Fr W0 c0 U.c) ∧
  (U.kd R = (40, 32)) ∧
  (R < U.sz) ∧
  (∀ o, o < 32 → U.ai R o = row o) ∧
  (U.kd A = (40, 32)) ∧
  (A < U.sz) ∧
  (∀ o, o < 32 → U.ai A o = I (f o)) ∧
  (U.rc = r1) ∧
  (U.rs = r2)
theorem CiS.F {c0 : HC} {R A : Nat} {row : Nat → Int32} {U : AH} {f : Nat → Nat} {r1 r2 : Nat} (h9 : CiS c0 R A row U f r1 r2) : Fr W0 c0 U.c := h9.1
theorem CiS.k {c0 : HC} {R A : Nat} {row : Nat → Int32} {U : AH} {f : Nat → Nat} {r1 r2 : Nat} (h9 : CiS c0 R A row U f r1 r2) : U.kd R = (40, 32) := h9.2.1
theorem CiS.l {c0 : HC} {R A : Nat} {row : Nat → Int32} {U : AH} {f : Nat → Nat} {r1 r2 : Nat} (h9 : CiS c0 R A row U f r1 r2) : R < U.sz := h9.2.2.1
theorem CiS.a {c0 : HC} {R A : Nat} {row : Nat → Int32} {U : AH} {f : Nat → Nat} {r1 r2 : Nat} (h9 : CiS c0 R A row U f r1 r2) : ∀ o, o < 32 → U.ai R o = row o := h9.2.2.2.1
theorem CiS.k2 {c0 : HC} {R A : Nat} {row : Nat → Int32} {U : AH} {f : Nat → Nat} {r1 r2 : Nat} (h9 : CiS c0 R A row U f r1 r2) : U.kd A = (40, 32) := h9.2.2.2.2.1
theorem CiS.l2 {c0 : HC} {R A : Nat} {row : Nat → Int32} {U : AH} {f : Nat → Nat} {r1 r2 : Nat} (h9 : CiS c0 R A row U f r1 r2) : A < U.sz := h9.2.2.2.2.2.1
theorem CiS.a2 {c0 : HC} {R A : Nat} {row : Nat → Int32} {U : AH} {f : Nat → Nat} {r1 r2 : Nat} (h9 : CiS c0 R A row U f r1 r2) : ∀ o, o < 32 → U.ai A o = I (f o) := h9.2.2.2.2.2.2.1
theorem CiS.c {c0 : HC} {R A : Nat} {row : Nat → Int32} {U : AH} {f : Nat → Nat} {r1 r2 : Nat} (h9 : CiS c0 R A row U f r1 r2) : U.rc = r1 := h9.2.2.2.2.2.2.2.1
theorem CiS.q {c0 : HC} {R A : Nat} {row : Nat → Int32} {U : AH} {f : Nat → Nat} {r1 r2 : Nat} (h9 : CiS c0 R A row U f r1 r2) : U.rs = r2 := h9.2.2.2.2.2.2.2.2

/-- the sum of all. -/
def sN (f : Nat → Nat) : Nat → Nat
  | 0 => 0
  | n + 1 => sN f n + f n
theorem sN_le {f g : Nat → Nat} : ∀ {n : Nat}, (∀ o, o < n → f o ≤ g o) → sN f n ≤ sN g n
  | 0, _ => Nat.le_refl _
  | n + 1, h => Nat.add_le_add (sN_le (fun o ho => h o (Nat.lt_succ_of_lt ho))) (h n (Nat.lt_succ_self _))
theorem sN_lt {f g : Nat → Nat} {i : Nat} : ∀ {n : Nat}, (∀ o, o < n → f o ≤ g o) → i < n → f i < g i → sN f n < sN g n
  | 0, _, hi, _ => absurd hi (Nat.not_lt_zero _)
  | n + 1, h, hi, hl => by
    have a := sN_le (fun o ho => h o (Nat.lt_succ_of_lt ho))
    have b := h n (Nat.lt_succ_self _)
    show sN f n + f n < sN g n + g n
    by_cases e : i = n
    · subst e; omega
    · have := sN_lt (fun o ho => h o (Nat.lt_succ_of_lt ho)) (show i < n by omega) hl
      omega

theorem px_fill {h : AH} {a n : Nat} (hk : h.kd a = (40, n)) (hn : n < 100000) {v : Int32} {Q : AH → Prop} (hQ : ∀ h', Fr (fun f b => f = 0 ∧ b = a) h.c h'.c → h'.sz = h.sz → h'.rc = h.rc → h'.rs = h.rs → (∀ i, i < n → h'.ai a i = v) → Q h') : wp_J6_fill (some a) v h Q := by
  unfold wp_J6_fill
  refine ⟨nn_of rfl (by rw [hk]), ?_⟩
  have e0 : nI (h.kd (adr (some a))).2 = I n := by rw [adr_some, hk]; rfl
  rw [e0]
  refine xlp_cnt n (fun k q U => q = I k ∧ Fr (fun f b => f = 0 ∧ b = a) h.c U.c ∧ U.sz = h.sz ∧ U.rc = h.rc ∧ U.rs = h.rs ∧ U.kd a = (40, n) ∧ ∀ i, i < k → U.ai a i = v) ⟨rfl, Fr.refl _, rfl, rfl, rfl, hk, fun i hi => absurd hi (Nat.not_lt_zero _)⟩ ?_
  intro k q U K hk' hh hK
  obtain ⟨hq, F, e1, e2, e3, e4, e5⟩ := hh
  rw [hq]
  by_cases e : k = n
  · exact brT (by (first | omega | ((try simp (disch := omega) only [L_le, le_L, L_lt, lt_L, eq_L, L_eq, I_le, I_lt, I_eq, I_ni, add_L, L_add, I_add, mul_L, L_mul, I_mul, sub_L, L_sub, I_sub, div_L, rem_L]); done) | ((try simp (disch := omega) only [L_le, le_L, L_lt, lt_L, eq_L, L_eq, I_le, I_lt, I_eq, I_ni, add_L, L_add, I_add, mul_L, L_mul, I_mul, sub_L, L_sub, I_sub, div_L, rem_L]); omega))) (hQ U F e1 e2 e3 (fun i hi => e5 i (by omega)))
  refine brF (by (first | omega | ((try simp (disch := omega) only [L_le, le_L, L_lt, lt_L, eq_L, L_eq, I_le, I_lt, I_eq, I_ni, add_L, L_add, I_add, mul_L, L_mul, I_mul, sub_L, L_sub, I_sub, div_L, rem_L]); done) | ((try simp (disch := omega) only [L_le, le_L, L_lt, lt_L, eq_L, L_eq, I_le, I_lt, I_eq, I_ni, add_L, L_add, I_add, mul_L, L_mul, I_mul, sub_L, L_sub, I_sub, div_L, rem_L]); omega))) ⟨ix_of rfl e4 (by omega) (by omega), ?_⟩
  rw [adr_some, I_ni (by omega)]
  intro U1 eU
  (try simp (disch := omega) only [L_le, le_L, L_lt, lt_L, eq_L, L_eq, I_le, I_lt, I_eq, I_ni, add_L, L_add, I_add, mul_L, L_mul, I_mul, sub_L, L_sub, I_sub, div_L, rem_L])
  refine hK _ _ (by omega) ⟨rfl, by rw [eU]; exact F.sai _ _ (fun _ => ⟨rfl, rfl⟩), by rw [eU]; exact e1, by rw [eU]; exact e2, by rw [eU]; exact e3, by rw [eU]; exact e4, fun i hi => ?_⟩
  rw [eU, sai_ai, if_pos rfl]
  by_cases ei : i = k
  · rw [ei, updN_same]
  · rw [updN_ne _ _ ei]; exact e5 i (by omega)

theorem Fr.wai {W c} {h : AH} (H : Fr W c h.c) {a : Nat} (f) (hW : a < c.sz → W 0 a) : Fr W c (h.wai a f).c :=
  ⟨H.sz, H.bs, H.kd, H.fi, H.fr, fun b hb hw => by
    have : b ≠ a := fun e => hw (by rw [e]; exact hW (e ▸ hb))
    show (if b = a then f else h.ai b) = _
    rw [if_neg this]; exact H.ai b hb hw, H.ar⟩

/-- what is settled of ways: as found, and no more comes. -/
def FrI (row : Nat → Int32) (g : Nat) (f : Nat → Nat) : Prop :=
  (∀ o, o < 32 → 1 ≤ f o ∧ f o ≤ 33) ∧
  (∀ o, o < 32 → f o < 33 → RchN (Rw row) (f o) o g)
theorem FrI.a {row : Nat → Int32} {g : Nat} {f : Nat → Nat} (h9 : FrI row g f) : ∀ o, o < 32 → 1 ≤ f o ∧ f o ≤ 33 := h9.1
theorem FrI.b {row : Nat → Int32} {g : Nat} {f : Nat → Nat} (h9 : FrI row g f) : ∀ o, o < 32 → f o < 33 → RchN (Rw row) (f o) o g := h9.2

theorem FarP.of {row : Nat → Int32} {g : Nat} {f : Nat → Nat} (I : FrI row g f) (h1 : ∀ o, Rw row o g → f o ≤ 1) (h2 : ∀ o x, Rw row o x → f o ≤ f x + 1) : FarP row g f := by
  intro o ho
  refine ⟨(I.a o ho).1, fun hl => I.b o ho (by omega), fun d d1 _ hr => ?_⟩
  have key : ∀ d o, o < 32 → 1 ≤ d → RchN (Rw row) d o g → f o ≤ d := by
    intro d
    induction d with
    | zero => intro o _ h; omega
    | succ d ih =>
      intro o ho _ hr
      obtain ⟨c, hc, hr'⟩ := hr
      by_cases e : d = 0
      · subst e
        have : c = g := hr'
        rw [this] at hc
        have := h1 o hc
        omega
      · have a := ih c hc.lt (by omega) hr'
        have b := h2 o c hc
        omega
  exact key d o ho d1 hr

theorem px_circleOf {h : AH} {o : Nat} (W : G.WF) (S : GS h.c L G) {ind : Nat → Int32} (hI : Ind h.c L G ind) {p : Nat} (hp : p < G.nP) {g : Nat} (hg : fself (clo (G.rI ind p)) = some g) (CI : CsI h.c) (hr : 40 ≤ h.rc) (hs : 2000 ≤ h.rs) {Q : Option Nat → AH → Prop}
    (hQ : ∀ h' a d m x, Fr W0 h.c h'.c → Ls h'.c a d m (rlen (G.rI ind p) g) x → (∀ i, i < rlen (G.rI ind p) g → (h'.kd (x i)).1 = 25 ∧ h'.fi 2500 (x i) = I (ring (G.rI ind p) g (rlen (G.rI ind p) g) i)) → Q (some a) h') : wp_X0_circleOf o (some (L.pa p)) h Q := by
  obtain ⟨hg32, hgs⟩ : g < 32 ∧ bt (clo (G.rI ind p) g) g = true := by
    have := fstN_some.1 hg
    exact ⟨this.1, this.2.1⟩
  have htr : Trc (Rw (G.rI ind p)) g g := (clo_bt _ hg32).1 hgs
  obtain ⟨hn, hn32⟩ := rlen_ok hg32 htr
  unfold wp_X0_circleOf
  refine ⟨nn_of rfl (S.pr p hp).k, ?_⟩
  refine ⟨1, 32, ⟨by omega, by omega⟩, ?_⟩
  refine px_rows (h := h.srm 1 32) W S (ind := ind) true false (fun _ => hI) hp (fun hh => absurd hh (by simp)) (Nat.le_refl _) (Nat.le_refl _) ?_
  intro h3 F3 z3 c3 s3 k3 r3
  have F3' : Fr W0 h.c h3.c := F3
  have z3' : h3.sz = h.sz + 1 := z3
  have k3' : h3.kd h.sz = (40, 32) := k3
  have r3' : ∀ o, o < 32 → h3.ai h.sz o = G.rI ind p o := fun o ho => by rw [show h3.ai h.sz o = G.rowF ind true false p o from r3 o ho, Gv.rowF_rI]
  clear F3 z3 k3 r3
  intro h4 e4
  rw [show (h.srm 1 32).sz = h.sz from rfl]
  have k4 : h4.kd h.sz = (40, 32) := by rw [e4]; exact k3'
  refine ⟨nn_of rfl (by show (h4.kd h.sz).1 = 40; rw [k4]), ?_⟩
  have e32 : (h4.kd (adr (some h.sz))).2 = 32 := by show (h4.kd h.sz).2 = 32; rw [k4]
  rw [e32]
  refine ⟨⟨by rw [e4]; show 1 ≤ h.rc - 1; omega, by rw [e4]; show 32 ≤ h.rs - 32; omega⟩, ?_⟩
  have z4 : h4.sz = h.sz + 1 := by rw [e4]; exact z3'
  have F4 : Fr W0 h.c h4.c := by rw [e4]; exact F3'
  have r4 : ∀ o, o < 32 → h4.ai h.sz o = G.rI ind p o := fun o ho => by rw [e4]; exact r3' o ho
  have c4 : h4.rc = h.rc - 1 ∧ h4.rs = h.rs - 32 := by rw [e4]; exact ⟨rfl, rfl⟩
  clear e4 F3' z3' k3' r3' c3 s3 h3 e32
  intro h8 e8
  have k8 : h8.kd h4.sz = (40, 32) := by
    rw [e8]
    show (h4.new 40 32 32).kd h4.sz = _
    rw [new_kd, if_pos rfl]
  have k8' : h8.kd h.sz = (40, 32) := by
    rw [e8]
    show (h4.new 40 32 32).kd h.sz = _
    rw [new_kd, if_neg (by omega)]; exact k4
  have a8 : h8.ai h4.sz = h4.ai h.sz := by rw [e8, wai_at]; rfl
  have a8' : h8.ai h.sz = h4.ai h.sz := by
    rw [e8]
    show (if h.sz = h4.sz then h4.ai (adr (some h.sz)) else (h4.new 40 32 32).ai h.sz) = _
    rw [if_neg (by omega), new_ai, if_neg (by omega)]
  have F8 : Fr W0 h.c h8.c := by rw [e8]; exact (F4.new _ _ _).wai _ (fun hh => by have h9 : h4.sz < h.sz := hh; omega)
  have z8 : h8.sz = h.sz + 2 := by rw [e8]; show h4.sz + 1 = _; omega
  have c8 : h8.rc = h.rc - 2 ∧ h8.rs = h.rs - 64 := by
    rw [e8]
    refine ⟨?_, ?_⟩
    · show h4.rc - 1 = _; omega
    · show h4.rs - 32 = _; omega
  refine ⟨nn_of rfl (by rw [k8]), ?_⟩
  refine px_closed (h := h8.srm 0 0) (a := h4.sz) (n := 32) (r := h4.ai h.sz) k8 (Nat.le_refl _) (by decide) a8 ?_
  intro h9 F9 z9 cc9 ss9 r9
  intro h13 e13
  have k9 : h9.kd h4.sz = (40, 32) := by
    have : h9.c.kd h4.sz = h8.c.kd h4.sz := F9.kd h4.sz (by show h4.sz < h8.sz; omega)
    rw [← k8]; exact this
  have k9' : h9.kd h.sz = (40, 32) := by
    have : h9.c.kd h.sz = h8.c.kd h.sz := F9.kd h.sz (by show h.sz < h8.sz; omega)
    rw [← k8']; exact this
  have a9' : h9.ai h.sz = h4.ai h.sz := by
    have : h9.c.ai h.sz = h8.c.ai h.sz := F9.ai h.sz (by show h.sz < h8.sz; omega) (fun hh => by have := hh.2; omega)
    rw [← a8']; exact this
  have z9' : h9.sz = h.sz + 2 := z9.trans z8
  have F9' : Fr W0 h.c h9.c := F8.trans' F9 (fun f a ha hw => by
    have := hw.2
    have ha' : a < h.sz := ha
    omega)
  refine px_onItself (h := h13.srm 0 0) (a := h4.sz) (n := 32) (r := clo (h4.ai h.sz)) (by rw [e13]; exact k9) (Nat.le_refl _) (by decide) (by rw [e13]; exact r9) ?_
  have e : fself (clo (h4.ai h.sz)) = some g := by
    rw [← hg]
    exact fself_congr' (fun x hx => clo_congr (fun y hy => r4 y hy) hx)
  rw [e]
  intro h16 e16
  have H16 : Fr W0 h.c h16.c ∧ h16.sz = h.sz + 2 ∧ h16.kd h.sz = (40, 32) ∧ (∀ o, o < 32 → h16.ai h.sz o = G.rI ind p o) ∧ h16.rc = h.rc - 2 ∧ h16.rs = h.rs - 64 := by
    rw [e16, e13]
    refine ⟨F9', z9', k9', fun o ho => ?_, c8.1, c8.2⟩
    show h9.ai h.sz o = _
    rw [a9']; exact r4 o ho
  clear cc9 ss9 e16 e13 F9 F9' z9 z9' k9 k9' a9' r9 F8 z8 c8 k8 k8' a8 a8' e8 e F4 z4 r4 c4 k4 h13 h9 h8 h4
  obtain ⟨F6, z6, k6, r6, c6, s6⟩ := H16
  refine ⟨⟨by decide, by decide, by omega, by show 32 ≤ h16.rs; omega⟩, ?_⟩
  intro h17 e17
  have k17 : h17.kd h16.sz = (40, 32) := by rw [e17, new_kd, if_pos rfl]; rfl
  refine px_fill (h := h17.srm 0 0) (n := 32) k17 (by decide) ?_
  intro h19 F19 z19 cc9 ss9 a19
  intro h20 e20
  have z17 : h17.sz = h.sz + 3 := by rw [e17, new_sz]; omega
  have Z20 : CiS h.c h.sz h16.sz (G.rI ind p) h20 (fun _ => 33) (h.rc - 3) (h.rs - 96) := by
    have F17 : Fr W0 h.c h17.c := by rw [e17]; exact F6.new _ _ _
    have F19' : Fr W0 h.c h19.c := F17.trans' F19 (fun f a ha hw => by
      have := hw.2
      have ha' : a < h.sz := ha
      omega)
    have z19' : h19.sz = h.sz + 3 := z19.trans z17
    have kR : h19.kd h.sz = (40, 32) := by
      have : h19.c.kd h.sz = h17.c.kd h.sz := F19.kd h.sz (by show h.sz < h17.sz; omega)
      rw [show h19.kd h.sz = h17.kd h.sz from this, e17, new_kd, if_neg (by omega)]; exact k6
    have aR : h19.ai h.sz = h16.ai h.sz := by
      have : h19.c.ai h.sz = h17.c.ai h.sz := F19.ai h.sz (by show h.sz < h17.sz; omega) (fun hh => by have := hh.2; omega)
      rw [show h19.ai h.sz = h17.ai h.sz from this, e17, new_ai, if_neg (by omega)]
    have kA : h19.kd h16.sz = (40, 32) := by
      have : h19.c.kd h16.sz = h17.c.kd h16.sz := F19.kd h16.sz (by show h16.sz < h17.sz; omega)
      rw [show h19.kd h16.sz = h17.kd h16.sz from this]; exact k17
    rw [e20]
    refine ⟨F19', kR, by show h.sz < h19.sz; omega, fun o ho => ?_, kA, by show h16.sz < h19.sz; omega, fun o ho => a19 o ho, ?_, ?_⟩
    · show h19.ai h.sz o = _
      rw [aR]; exact r6 o ho
    · show h17.rc = _
      rw [e17, new_rc]; omega
    · show h17.rs = _
      rw [e17, new_rs]; show h16.rs - 32 = _; omega
  clear cc9 ss9 e20 a19 z19 F19 z17 k17 e17 s6 c6 r6 k6 h19 h17 F6
  have hA : h16.sz = h.sz + 2 := z6
  clear z6
  generalize hAA : h16.sz = A at *
  -- ways
  refine ⟨fun n q U => ∃ f, CiS h.c h.sz A (G.rI ind p) U f (h.rc - 3) (h.rs - 96) ∧ FrI (G.rI ind p) g f ∧ ((q = 1 ∧ n = sN f 32 + 1) ∨ (q = 0 ∧ (∀ o, Rw (G.rI ind p) o g → f o ≤ 1) ∧ ∀ o x, Rw (G.rI ind p) o x → f o ≤ f x + 1)), ⟨_, fun _ => 33, Z20, ⟨fun _ _ => ⟨by show 1 ≤ 33; decide, by show 33 ≤ 33; decide⟩, fun _ _ hh => absurd (show (33 : Nat) < 33 from hh) (by decide)⟩, .inl ⟨rfl, rfl⟩⟩, ?_⟩
  clear Z20 h20
  rintro n q U ⟨f, Z, FI, hq⟩
  rcases hq with ⟨hq, hnn⟩ | ⟨hq, hc1, hc2⟩
  · rw [hq]
    clear hq q
    refine brF (by decide) ?_
    refine xlp_cnt 32 (fun o q U2 => ∃ f', CiS h.c h.sz A (G.rI ind p) U2 f' (h.rc - 3) (h.rs - 96) ∧ FrI (G.rI ind p) g f' ∧ (∀ o, o < 32 → f' o ≤ f o) ∧ ((q = (0, I o) ∧ f' = f ∧ ∀ o', o' < o → (Rw (G.rI ind p) o' g → f o' ≤ 1) ∧ ∀ x, Rw (G.rI ind p) o' x → f o' ≤ f x + 1) ∨ (q = (1, I o) ∧ sN f' 32 < sN f 32))) ⟨f, Z, FI, fun _ _ => Nat.le_refl _, .inl ⟨rfl, rfl, fun o' ho => absurd ho (Nat.not_lt_zero _)⟩⟩ ?_
    clear Z FI U
    intro o9 q U K ho hh hK
    obtain ⟨f', Z, FI, hle, hq⟩ := hh
    obtain ⟨fl, hfl⟩ : ∃ fl, q = (fl, I o9) := by rcases hq with hh | hh <;> exact ⟨_, hh.1⟩
    subst hfl
    by_cases e : o9 = 32
    · refine brT (by (first | omega | ((try simp (disch := omega) only [L_le, le_L, L_lt, lt_L, eq_L, L_eq, I_le, I_lt, I_eq, I_ni, add_L, L_add, I_add, mul_L, L_mul, I_mul, sub_L, L_sub, I_sub, div_L, rem_L]); done) | ((try simp (disch := omega) only [L_le, le_L, L_lt, lt_L, eq_L, L_eq, I_le, I_lt, I_eq, I_ni, add_L, L_add, I_add, mul_L, L_mul, I_mul, sub_L, L_sub, I_sub, div_L, rem_L]); omega))) ?_
      rcases hq with ⟨h1, h2, h3⟩ | ⟨h1, h2⟩
      · have : fl = 0 := (Prod.mk.inj h1).1
        rw [this]
        subst h2
        exact ⟨0, by omega, f', Z, FI, .inr ⟨rfl, fun o hr => (h3 o (by have := hr.1; omega)).1 hr, fun o x hr => (h3 o (by have := hr.1; omega)).2 x hr⟩⟩
      · have : fl = 1 := (Prod.mk.inj h1).1
        rw [this]
        exact ⟨sN f' 32 + 1, by omega, f', Z, FI, .inl ⟨rfl, rfl⟩⟩
    have ho' : o9 < 32 := by omega
    refine brF (by (first | omega | ((try simp (disch := omega) only [L_le, le_L, L_lt, lt_L, eq_L, L_eq, I_le, I_lt, I_eq, I_ni, add_L, L_add, I_add, mul_L, L_mul, I_mul, sub_L, L_sub, I_sub, div_L, rem_L]); done) | ((try simp (disch := omega) only [L_le, le_L, L_lt, lt_L, eq_L, L_eq, I_le, I_lt, I_eq, I_ni, add_L, L_add, I_add, mul_L, L_mul, I_mul, sub_L, L_sub, I_sub, div_L, rem_L]); omega))) ?_
    rw [adr_some, I_ni (by omega), Z.a o9 ho']
    refine ⟨ix_of rfl Z.k ho' (by decide), ?_⟩
    refine px_has (h := U.srm 0 0) hg32 (pu ?_)
    intro m hm
    have hm' : m = I (if bt (G.rI ind p o9) g = true then 1 else 33) := by
      rw [hm]
      by_cases hb : bt (G.rI ind p o9) g = true
      · rw [if_pos hb, if_pos hb]; rfl
      · rw [if_neg hb, if_neg hb]; rfl
    rw [hm']
    clear hm hm' m
    refine xlp_cnt 32 (fun x q U2 => U2 = U ∧ ∃ y, q = (I y, I x) ∧ 1 ≤ y ∧ y ≤ 33 ∧ (y < 33 → RchN (Rw (G.rI ind p)) y o9 g) ∧ (Rw (G.rI ind p) o9 g → y ≤ 1) ∧ ∀ x', x' < x → Rw (G.rI ind p) o9 x' → y ≤ f' x' + 1) ⟨rfl, _, rfl, ?_, ?_, ?_, ?_, fun x' hx => absurd hx (Nat.not_lt_zero _)⟩ ?_
    · split <;> omega
    · split <;> omega
    · intro hl
      by_cases hb : bt (G.rI ind p o9) g = true
      · rw [if_pos hb]; exact ⟨g, ⟨ho', hb⟩, rfl⟩
      · rw [if_neg hb] at hl; omega
    · intro hh
      rw [if_pos hh.2]; omega
    intro x q U2 K2 hx hh hK2
    obtain ⟨hU, y, hq2, y1, y2, y3, y4, y5⟩ := hh
    rw [hU, hq2]
    clear hU hq2 q U2
    have b1 := FI.a o9 ho'
    by_cases ex : x = 32
    · refine brT (by (first | omega | ((try simp (disch := omega) only [L_le, le_L, L_lt, lt_L, eq_L, L_eq, I_le, I_lt, I_eq, I_ni, add_L, L_add, I_add, mul_L, L_mul, I_mul, sub_L, L_sub, I_sub, div_L, rem_L]); done) | ((try simp (disch := omega) only [L_le, le_L, L_lt, lt_L, eq_L, L_eq, I_le, I_lt, I_eq, I_ni, add_L, L_add, I_add, mul_L, L_mul, I_mul, sub_L, L_sub, I_sub, div_L, rem_L]); omega))) ?_
      rw [Z.a2 o9 ho']
      (try simp (disch := omega) only [L_le, le_L, L_lt, lt_L, eq_L, L_eq, I_le, I_lt, I_eq, I_ni, add_L, L_add, I_add, mul_L, L_mul, I_mul, sub_L, L_sub, I_sub, div_L, rem_L])
      refine ⟨ix_of rfl Z.k2 ho' (by decide), ?_⟩
      intro m hm
      refine ⟨ix_of rfl Z.k2 ho' (by decide), ?_⟩
      refine px_lesser (h := U.srm 0 0) (by omega) (by omega) (pu ?_)
      refine ⟨ix_of rfl Z.k2 ho' (by decide), ?_⟩
      intro U3 e3
      have ha : U3.ai A = updN (U.ai A) o9 (I (min (f' o9) y)) := by rw [e3, sai_ai, if_pos rfl]
      have haR : U3.ai h.sz = U.ai h.sz := by rw [e3, sai_ai, if_neg (by omega)]
      have Z3 : CiS h.c h.sz A (G.rI ind p) U3 (updN f' o9 (min (f' o9) y)) (h.rc - 3) (h.rs - 96) := by
        refine ⟨by rw [e3]; exact Z.F.sai _ _ (fun hh => by have h9 : A < h.sz := hh; omega), by rw [e3]; exact Z.k, by rw [e3]; exact Z.l, fun o ho => by rw [haR]; exact Z.a o ho, by rw [e3]; exact Z.k2, by rw [e3]; exact Z.l2, fun o ho => ?_, by rw [e3]; exact Z.c, by rw [e3]; exact Z.q⟩
        rw [ha]
        by_cases eo : o = o9
        · rw [eo, updN_same, updN_same]
        · rw [updN_ne _ _ eo, updN_ne _ _ eo]; exact Z.a2 o ho
      have FI3 : FrI (G.rI ind p) g (updN f' o9 (min (f' o9) y)) := by
        refine ⟨fun o ho => ?_, fun o ho hl => ?_⟩
        · by_cases eo : o = o9
          · rw [eo, updN_same]; omega
          · rw [updN_ne _ _ eo]; exact FI.a o ho
        · by_cases eo : o = o9
          · subst eo
            rw [updN_same] at hl ⊢
            by_cases hl2 : f' o ≤ y
            · rw [Nat.min_eq_left hl2] at hl ⊢; exact FI.b o (by omega) hl
            · rw [Nat.min_eq_right (by omega)] at hl ⊢; exact y3 hl
          · rw [updN_ne _ _ eo] at hl ⊢; exact FI.b o ho hl
      have hle3 : ∀ o, o < 32 → updN f' o9 (min (f' o9) y) o ≤ f' o := fun o ho => by
        by_cases eo : o = o9
        · rw [eo, updN_same]; omega
        · rw [updN_ne _ _ eo]; exact Nat.le_refl _
      refine hK _ _ ho' ⟨_, Z3, FI3, fun o ho => Nat.le_trans (hle3 o ho) (hle o ho), ?_⟩
      by_cases hl : f' o9 ≤ y
      · have em : m = 0 := by rw [hm, if_pos hl]
        have eu : updN f' o9 (min (f' o9) y) = f' := by
          funext o
          by_cases eo : o = o9
          · rw [eo, updN_same, Nat.min_eq_left hl]
          · rw [updN_ne _ _ eo]
        rw [em, eu]
        rcases hq with ⟨h1, h2, h3⟩ | ⟨h1, h2⟩
        · have : fl = 0 := (Prod.mk.inj h1).1
          refine .inl ⟨by rw [this]; rfl, h2, fun o' hl' => ?_⟩
          by_cases eo : o' = o9
          · subst eo
            rw [h2] at hl y5
            exact ⟨fun hr => by have := y4 hr; omega, fun x' hr => by have := y5 x' (by have := hr.lt; omega) hr; omega⟩
          · exact h3 o' (by omega)
        · have : fl = 1 := (Prod.mk.inj h1).1
          exact .inr ⟨by rw [this]; rfl, h2⟩
      · have em : m = 1 := by rw [hm, if_neg hl]
        rw [em]
        refine .inr ⟨?_, ?_⟩
        · rcases hq with ⟨h1, _⟩ | ⟨h1, _⟩
          · have : fl = 0 := (Prod.mk.inj h1).1
            rw [this]; rfl
          · have : fl = 1 := (Prod.mk.inj h1).1
            rw [this]; rfl
        · have s1 : sN (updN f' o9 (min (f' o9) y)) 32 < sN f' 32 := sN_lt hle3 ho' (by rw [updN_same]; omega)
          have s2 : sN f' 32 ≤ sN f 32 := sN_le hle
          omega
    have hx' : x < 32 := by omega
    refine brF (by (first | omega | ((try simp (disch := omega) only [L_le, le_L, L_lt, lt_L, eq_L, L_eq, I_le, I_lt, I_eq, I_ni, add_L, L_add, I_add, mul_L, L_mul, I_mul, sub_L, L_sub, I_sub, div_L, rem_L]); done) | ((try simp (disch := omega) only [L_le, le_L, L_lt, lt_L, eq_L, L_eq, I_le, I_lt, I_eq, I_ni, add_L, L_add, I_add, mul_L, L_mul, I_mul, sub_L, L_sub, I_sub, div_L, rem_L]); omega))) ?_
    rw [Z.a o9 ho']
    (try simp (disch := omega) only [L_le, le_L, L_lt, lt_L, eq_L, L_eq, I_le, I_lt, I_eq, I_ni, add_L, L_add, I_add, mul_L, L_mul, I_mul, sub_L, L_sub, I_sub, div_L, rem_L])
    refine ⟨ix_of rfl Z.k ho' (by decide), ?_⟩
    refine px_has (h := U.srm 0 0) hx' (pu ?_)
    by_cases hb : bt (G.rI ind p o9) x = true
    rotate_left
    · rw [if_neg hb]
      refine brT rfl (hK2 _ _ hx' ⟨rfl, y, rfl, y1, y2, y3, y4, fun x' hl hr => y5 x' (by have : x' ≠ x := fun e9 => hb (e9 ▸ hr.2); omega) hr⟩)
    rw [if_pos hb]
    have b2 := FI.a x hx'
    refine brF (by decide) ⟨ix_of rfl Z.k2 hx' (by decide), ?_⟩
    rw [Z.a2 x hx']
    (try simp (disch := omega) only [L_le, le_L, L_lt, lt_L, eq_L, L_eq, I_le, I_lt, I_eq, I_ni, add_L, L_add, I_add, mul_L, L_mul, I_mul, sub_L, L_sub, I_sub, div_L, rem_L])
    refine px_lesser (h := U.srm 0 0) (by omega) (by omega) (pu ?_)
    refine hK2 _ _ hx' ⟨rfl, min y (f' x + 1), rfl, by omega, by omega, fun hl => ?_, fun hr => by have := y4 hr; omega, fun x' hl hr => ?_⟩
    · by_cases hl2 : y ≤ f' x + 1
      · rw [Nat.min_eq_left hl2] at hl ⊢; exact y3 hl
      · rw [Nat.min_eq_right (by omega)] at hl ⊢
        exact ⟨x, ⟨ho', hb⟩, FI.b x hx' (by omega)⟩
    · by_cases e9 : x' = x
      · subst e9; omega
      · have := y5 x' (by omega) hr; omega
  -- the ring
  have FP := FarP.of FI hc1 hc2
  have hfb : ∀ c, c < 32 → f c ≤ 33 := fun c hc => (FI.a c hc).2
  rw [hq]
  clear hq q FI hc1 hc2
  have zc := Z.c
  have zq := Z.q
  have zl2 := Z.l2
  refine brT rfl ⟨⟨by omega, by omega⟩, ?_⟩
  intro h24 e24
  have kd24 : (h24.kd U.sz).1 = 23 := by rw [e24, new_kd, if_pos rfl]
  have F24 : Fr W0 h.c h24.c := by rw [e24]; exact Z.F.new _ _ _
  have F24U : Fr W0 U.c h24.c := by rw [e24]; exact (Fr.refl _).new _ _ _
  have c24 : h24.rc = h.rc - 4 ∧ h24.rs = h.rs - 99 ∧ h24.sz = U.sz + 1 := by rw [e24]; exact ⟨by show U.rc - 1 = _; omega, by show U.rs - 3 = _; omega, rfl⟩
  refine ⟨1, 4, ⟨by omega, by omega⟩, ?_⟩
  refine pc_initL (h := h24.srm 1 4) (n := 4) kd24 (by show U.sz < h24.sz; omega) (by rw [e24]; show (U.new 23 0 3).fi 2302 U.sz = 0; rw [new_fi, if_pos rfl]) (by decide) (by decide) (Nat.le_refl _) (Nat.le_refl _) ?_
  intro h26 F26 L26 z26 _ _
  intro h27 e27
  have hA2 : A < U.sz := Z.l2
  have F26U : Fr W0 U.c h26.c := F24U.trans' F26 (fun f a ha hw => by have := hw.1; have ha' : a < U.sz := ha; omega)
  have F27 : Fr W0 h.c h27.c := by rw [e27]; exact F24.trans' F26 (fun f a ha hw => by have := hw.1; have ha' : a < h.sz := ha; have := Z.F.sz; have h9 : h.sz ≤ U.sz := this; omega)
  have kA : h27.kd A = (40, 32) := by rw [e27]; exact (F26U.kd A hA2).trans Z.k2
  have aA : h27.ai A = U.ai A := by rw [e27]; exact F26U.ai A hA2 (fun hh => hh)
  have kR : h27.kd h.sz = (40, 32) := by rw [e27]; exact (F26U.kd h.sz Z.l).trans Z.k
  have aR : h27.ai h.sz = U.ai h.sz := by rw [e27]; exact F26U.ai h.sz Z.l (fun hh => hh)
  have c27 : h27.rc = h.rc - 5 ∧ h27.rs = h.rs - 103 ∧ h27.sz = U.sz + 2 := by
    rw [e27]
    refine ⟨?_, ?_, ?_⟩
    · show h24.rc - 1 = _; omega
    · show h24.rs - 4 = _; omega
    · show h26.sz = _; rw [z26]; show h24.sz + 1 = _; omega
  have L27 : ∀ x, Ls h27.c U.sz (U.sz + 1) 4 0 x := fun x => by
    rw [e27]
    have := L26 x
    rw [show (h24.srm 1 4).sz = U.sz + 1 from c24.2.2] at this
    exact this
  refine ⟨ix_of rfl kA hg32 (by decide), ?_⟩
  rw [show oI (some g) = I g from rfl, I_ni (by omega), aA, Z.a2 g hg32, (FP.iff hg32 hn32 hn.1).2 hn]
  refine xlp_cnt (rlen (G.rI ind p) g) (fun i q V => (∃ z, q = (I z, I (rlen (G.rI ind p) g - i)) ∧ (i < rlen (G.rI ind p) g → z = ring (G.rI ind p) g (rlen (G.rI ind p) g) i)) ∧ Fr W0 h.c V.c ∧ Fr (fun f b => b = U.sz ∨ b = U.sz + 1) h27.c V.c ∧ (∃ d m x, Ls V.c U.sz d m i x ∧ 1 ≤ m ∧ U.sz < d ∧ LsO V.c i x ∧ ∀ j, j < i → (V.kd (x j)).1 = 25 ∧ V.fi 2500 (x j) = I (ring (G.rI ind p) g (rlen (G.rI ind p) g) j)) ∧ h.rc - 5 - i ≤ V.rc ∧ h.rs - 103 - 48 * i ≤ V.rs) ⟨⟨g, rfl, fun _ => rfl⟩, F27, Fr.refl _, ⟨U.sz + 1, 4, fun _ => 0, L27 _, by decide, by omega, fun i hi => absurd hi (Nat.not_lt_zero _), fun j hj => absurd hj (Nat.not_lt_zero _)⟩, by omega, by omega⟩ ?_
  intro i q V K hi hh hK
  obtain ⟨⟨z, hq, hz⟩, FV, FV2, ⟨d, m, x, LV, hm, hd, OV, xV⟩, rc9, rs9⟩ := hh
  rw [hq]
  clear hq q
  by_cases ei : i = rlen (G.rI ind p) g
  · refine brT (by show I (rlen (G.rI ind p) g - i) ≤ 0; rw [le_L 0 (by decide) (by omega)]; show rlen (G.rI ind p) g - i ≤ 0; omega) ?_
    subst ei
    exact hQ V U.sz d m x FV LV xV
  have hi' : i < rlen (G.rI ind p) g := by omega
  have hz' := hz hi'
  subst hz'
  obtain ⟨ro1, ro2⟩ := ring_ok hg32 hn i hi'
  refine brF (by show ¬ I (rlen (G.rI ind p) g - i) ≤ 0; rw [le_L 0 (by decide) (by omega)]; show ¬ rlen (G.rI ind p) g - i ≤ 0; omega) ?_
  refine ⟨0, 0, ⟨by omega, by omega⟩, ?_⟩
  have CV : CsI V.c := CI.keep FV (fun hh => hh) (fun a hh => hh)
  refine px_valueOf32 (h := V.srm 0 0) CV ro1 ?_
  intro a ka0 fa la
  have ka : (V.kd a).1 = 25 := ka0
  intro V1 eV1
  have eV1' : V1 = V := by rw [eV1, Nat.sub_zero, Nat.sub_zero, srm_back]
  rw [eV1']
  clear eV1 eV1' V1
  refine ⟨nn_of rfl LV.k, ?_⟩
  have hgr : grw i ≤ 48 := by unfold grw; split <;> omega
  refine ⟨1, 48, ⟨by omega, by omega⟩, ?_⟩
  refine pc_add (h := V.srm 1 48) LV OV hm (by omega) la (by show stk 44 (V.kd a).1 = true; rw [ka]; rfl) (Nat.le_refl _) hgr ?_
  intro V2 d' m' F2 LV2 hm' hd' rc2 rs2
  intro V3 eV3
  have F23 : Fr (WL U.sz d) V.c V3.c := by rw [eV3]; exact F2
  have zV : h27.sz ≤ V.sz := FV2.sz
  have zh : h.sz ≤ V.sz := FV.sz
  have zU : h.sz ≤ U.sz := Z.F.sz
  have FV3 : Fr W0 h.c V3.c := FV.trans' F23 (fun f b hb hw => by
    have hb' : b < h.sz := hb
    rcases hw with ⟨e9, _⟩ | ⟨_, e9⟩ <;> omega)
  have F3' : Fr (fun f b => b = U.sz ∨ b = U.sz + 1) h27.c V3.c := FV2.trans' F23 (fun f b hb hw => by
    have hb' : b < h27.sz := hb
    rcases hw with ⟨e9, _⟩ | ⟨_, e9⟩ <;> omega)
  have LV3 : Ls V3.c U.sz d' m' (i + 1) (updN x i a) := by rw [eV3]; exact LV2
  have hd3 : U.sz < d' := by
    rcases hd' with e9 | e9
    · omega
    · have : d' = V.sz := e9
      omega
  have keep : ∀ b, b < V.sz → (V.kd b).1 = 25 → (V3.kd b).1 = 25 ∧ V3.fi 2500 b = V.fi 2500 b := fun b hb hk => by
    refine ⟨?_, ?_⟩
    · have : V3.c.kd b = V.c.kd b := F23.kd b hb
      rw [show V3.kd b = V.kd b from this]; exact hk
    · refine F23.fi 2500 b hb ?_
      rintro (⟨_, e9⟩ | ⟨e9, _⟩)
      · omega
      · exact absurd e9 (by decide)
  have OV3 : LsO V3.c (i + 1) (updN x i a) := fun j hj => by
    by_cases ej : j = i
    · rw [ej, updN_same]
      exact ⟨Nat.lt_of_lt_of_le la F23.sz, by show stk 44 (V3.kd a).1 = true; rw [(keep a la ka).1]; rfl⟩
    · rw [updN_ne _ _ ej]
      have := OV j (by omega)
      exact ⟨Nat.lt_of_lt_of_le this.1 F23.sz, by rw [F23.kd _ this.1]; exact this.2⟩
  have xV3 : ∀ j, j < i + 1 → (V3.kd (updN x i a j)).1 = 25 ∧ V3.fi 2500 (updN x i a j) = I (ring (G.rI ind p) g (rlen (G.rI ind p) g) j) := fun j hj => by
    by_cases ej : j = i
    · rw [ej, updN_same]
      have := keep a la ka
      exact ⟨this.1, by rw [this.2]; exact fa⟩
    · rw [updN_ne _ _ ej]
      have h1 := xV j (by omega)
      have := keep _ (OV j (by omega)).1 h1.1
      exact ⟨this.1, by rw [this.2]; exact h1.2⟩
  have rc3 : h.rc - 5 - (i + 1) ≤ V3.rc := by rw [eV3]; show _ ≤ V.rc - 1; omega
  have rs3 : h.rs - 103 - 48 * (i + 1) ≤ V3.rs := by rw [eV3]; show _ ≤ V.rs - 48; omega
  have kA3 : V3.kd A = (40, 32) := by
    have h9 : V3.c.kd A = h27.c.kd A := F3'.kd A (by show A < h27.sz; omega)
    rw [show V3.kd A = h27.kd A from h9]; exact kA
  have aA3 : ∀ c, c < 32 → V3.ai A c = I (f c) := fun c hc => by
    have h9 : V3.c.ai A = h27.c.ai A := F3'.ai A (by show A < h27.sz; omega) (fun hh => by omega)
    rw [show V3.ai A = h27.ai A from h9, aA]; exact Z.a2 c hc
  have zR : h.sz < U.sz := Z.l
  have kR3 : V3.kd h.sz = (40, 32) := by
    have h9 : V3.c.kd h.sz = h27.c.kd h.sz := F3'.kd h.sz (by show h.sz < h27.sz; omega)
    rw [show V3.kd h.sz = h27.kd h.sz from h9]; exact kR
  have aR3 : ∀ c, c < 32 → V3.ai h.sz c = G.rI ind p c := fun c hc => by
    have h9 : V3.c.ai h.sz = h27.c.ai h.sz := F3'.ai h.sz (by show h.sz < h27.sz; omega) (fun hh => by omega)
    rw [show V3.ai h.sz = h27.ai h.sz from h9, aR]; exact Z.a c hc
  have fin : ∀ z, (i + 1 < rlen (G.rI ind p) g → z = ring (G.rI ind p) g (rlen (G.rI ind p) g) (i + 1)) → K (I z, I (rlen (G.rI ind p) g - i) + (-1)) V3 := fun z hz => by
    refine hK _ _ hi' ⟨⟨z, ?_, hz⟩, FV3, F3', ⟨d', m', _, LV3, hm', hd3, OV3, xV3⟩, rc3, rs3⟩
    rw [add_neg1]
    (try simp (disch := omega) only [L_le, le_L, L_lt, lt_L, eq_L, L_eq, I_le, I_lt, I_eq, I_ni, add_L, L_add, I_add, mul_L, L_mul, I_mul, sub_L, L_sub, I_sub, div_L, rem_L])
    rw [Nat.sub_sub]
  clear hK hQ
  by_cases el : i + 1 = rlen (G.rI ind p) g
  · refine xlp_cnt 0 (fun c q V4 => q = I 0 ∧ V4 = V3) ⟨rfl, rfl⟩ ?_
    intro c q V4 K3 hc hh hK3
    obtain ⟨hs', hV4⟩ := hh
    rw [hs', hV4]
    refine brT (by show I (rlen (G.rI ind p) g - i) ≤ 1; rw [le_L 1 (by decide) (by omega)]; show rlen (G.rI ind p) g - i ≤ 1; omega) ?_
    exact fin 0 (fun hh => by omega)
  obtain ⟨n1, n2, n3⟩ := ring_nx hg32 hn (show i + 1 < rlen (G.rI ind p) g by omega)
  have n1l := n1.lt
  refine xlp_cnt (ring (G.rI ind p) g (rlen (G.rI ind p) g) (i + 1)) (fun c q V4 => q = I c ∧ V4 = V3) ⟨rfl, rfl⟩ ?_
  intro c q V4 K3 hc hh hK3
  obtain ⟨hs', hV4⟩ := hh
  rw [hs', hV4]
  clear hs' hV4 q V4
  refine brF (by show ¬ I (rlen (G.rI ind p) g - i) ≤ 1; rw [le_L 1 (by decide) (by omega)]; show ¬ rlen (G.rI ind p) g - i ≤ 1; omega) ?_
  refine ⟨ix_of rfl kR3 ro1 (by decide), ?_⟩
  rw [adr_some, I_ni (by omega), show V3.ai h.sz (ring (G.rI ind p) g (rlen (G.rI ind p) g) i) = _ from aR3 _ ro1]
  refine px_has (h := V3.srm 0 0) (by omega) (pu ?_)
  have hd : ∀ c, c < 32 → (V3.ai A c = I (rlen (G.rI ind p) g - i) - 1 ↔ isD (G.rI ind p) g c (rlen (G.rI ind p) g - i - 1)) := fun c hc => by
    have hf9 : f c = rlen (G.rI ind p) g - i - 1 ↔ isD (G.rI ind p) g c (rlen (G.rI ind p) g - i - 1) := FP.iff hc (by omega) (by omega)
    rw [aA3 c hc, ← hf9]
    have e9 : I (rlen (G.rI ind p) g - i) - 1 = I (rlen (G.rI ind p) g - i - 1) := I_sub (a := rlen (G.rI ind p) g - i) (b := 1) (by omega)
    rw [e9]
    constructor
    · intro hh
      have h9 := (FP c hc)
      by_cases hfc : f c < 2147483648
      · exact (I_eq hfc (by omega)).1 hh
      · have := Z.a2 c hc
        exact absurd hfc (by have := hfb c hc; omega)
    · intro hh; rw [hh]
  by_cases ec : c = ring (G.rI ind p) g (rlen (G.rI ind p) g) (i + 1)
  · subst ec
    rw [if_pos n1.2]
    refine brF (by decide) ⟨ix_of rfl kA3 n1l (by decide), ?_⟩
    rw [I_ni (by omega)]
    exact brT ((hd _ n1l).2 n2) (fin _ (fun _ => rfl))
  have hc' : c < ring (G.rI ind p) g (rlen (G.rI ind p) g) (i + 1) := by omega
  have hgo := hK3 (I (c + 1)) V3 hc' ⟨rfl, rfl⟩
  by_cases hb : bt (G.rI ind p (ring (G.rI ind p) g (rlen (G.rI ind p) g) i)) c = true
  · rw [if_pos hb]
    refine brF (by decide) ⟨ix_of rfl kA3 (by omega) (by decide), ?_⟩
    rw [I_ni (by omega)]
    refine brF (fun hh => n3 c hc' ⟨⟨ro1, hb⟩, (hd c (by omega)).1 hh⟩) ?_
    (try simp (disch := omega) only [L_le, le_L, L_lt, lt_L, eq_L, L_eq, I_le, I_lt, I_eq, I_ni, add_L, L_add, I_add, mul_L, L_mul, I_mul, sub_L, L_sub, I_sub, div_L, rem_L])
    exact hgo
  · rw [if_neg hb]
    refine brT rfl ?_
    (try simp (disch := omega) only [L_le, le_L, L_lt, lt_L, eq_L, L_eq, I_le, I_lt, I_eq, I_ni, add_L, L_add, I_add, mul_L, L_mul, I_mul, sub_L, L_sub, I_sub, div_L, rem_L])
    exact hgo
end
