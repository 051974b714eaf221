/-! plain: kn -/
set_option maxRecDepth 100000
section
variable {h : AH} {lo q o jn tpa : Nat} {tp : Nat → Nat} {n : Nat} {t : Tk} {L L' : GA} {A A' : PG} {ow ow' : Nat → Nat} {z0 g p : Nat}

theorem pnt_iff {fr : Nat} : isSg (tokA tp n fr) 46 = true ↔ inB tp n 46 46 fr = true := by
  have hi : inB tp n 46 46 fr = true ↔ fr < n ∧ tp fr = 46 := by
    unfold inB
    rw [Bool.and_eq_true, Bool.and_eq_true, decide_eq_true_iff, decide_eq_true_iff, decide_eq_true_iff]
    constructor
    · rintro ⟨a, b, c⟩; exact ⟨a, by omega⟩
    · rintro ⟨a, b⟩; exact ⟨a, by omega, by omega⟩
  rw [hi, isSg_iff]
  rcases tok_cases (tp := tp) (n := n) (fr := fr) rfl with ⟨hn, e⟩ | ⟨hn, hl, _, e⟩ | ⟨hn, _, hd, e⟩ | ⟨hn, hl, hd, e⟩
  · rw [e]
    constructor
    · rintro ⟨hh, _⟩; exact absurd (show (0 : Nat) = 4 from hh) (by decide)
    · rintro ⟨hh, _⟩; omega
  · rw [e]
    constructor
    · rintro ⟨hh, _⟩
      have h9 : (if 8 < eL tp n fr - fr then 1 else 2) = 4 := hh
      split at h9 <;> omega
    · rintro ⟨_, hh⟩
      have := (ltr_iff.1 hl).2
      omega
  · rw [e]
    constructor
    · rintro ⟨hh, _⟩
      have h9 : (if 4 < eD tp n fr - fr then 1 else 3) = 4 := hh
      split at h9 <;> omega
    · rintro ⟨_, hh⟩
      have := (dgt_iff.1 hd).2
      omega
  · rw [e]
    constructor
    · rintro ⟨_, hh⟩; exact ⟨hn, hh⟩
    · rintro ⟨_, hh⟩
      refine ⟨?_, hh⟩
      show (if sgn (tp fr) = true then 4 else 1) = 4
      rw [hh]; rfl
theorem px_isPoint (K : RdK h.c lo q o jn tpa tp n t) {Q : Int32 → AH → Prop} (hQ : Q (if isSg (nxt tp n t) 46 then 1 else 0) h) : wp_X2_isPointBehind q h Q := by
  have hm := K.R.m
  have l2 := K.T.l2
  have hS0 := eS_ok (tp := tp) (n := n) t.to
  have eSn := eS_le (tp := tp) l2
  have ek : isSg (nxt tp n t) 46 = true ↔ inB tp n 46 46 (eS tp n t.to) = true := pnt_iff
  generalize eS tp n t.to = fr at *
  have el := hS0.1
  unfold wp_X2_isPointBehind
  refine ⟨nn_of rfl K.R.k, ?_⟩
  rw [show h.fi 302 q = I t.to from K.T.f2]
  refine xlp_cnt (fr - t.to) (fun k s U => s = I (t.to + k) ∧ U = h) ⟨rfl, rfl⟩ ?_
  intro k s U K2 hk hh hK
  obtain ⟨e1, e2⟩ := hh
  rw [e1, e2]
  refine ⟨nn_of rfl K.R.k, ?_⟩
  have hsp := inB_spc (tp := tp) (n := n) (t.to + k)
  have go : t.to + k < fr → K2 (I (t.to + k) + 1) h := by
    intro hl
    rw [show I (t.to + k) + 1 = I (t.to + (k + 1)) from I_add _ 1]
    exact hK _ _ (by omega) ⟨rfl, rfl⟩
  have atE : spc tp n (t.to + k) = true → t.to + k < fr := by
    intro hsp
    rcases Nat.lt_or_ge (t.to + k) fr with l | l
    · exact l
    · have e : t.to + k = fr := by omega
      rw [e, hS0.2.2] at hsp
      exact absurd hsp (by decide)
  refine px_isAt (h := h.srm 0 0) (lo := 32) (hi := 32) K.R (by omega) (by decide) (by decide) (pu ?_)
  by_cases b32 : inB tp n 32 32 (t.to + k) = true
  · rw [if_pos b32]
    rw [b32, Bool.true_or] at hsp
    exact brF (by decide) (go (atE hsp.symm))
  rw [if_neg b32]
  refine brT rfl ⟨nn_of rfl K.R.k, ?_⟩
  refine px_isAt (h := h.srm 0 0) (lo := 10) (hi := 10) K.R (by omega) (by decide) (by decide) (pu ?_)
  by_cases b10 : inB tp n 10 10 (t.to + k) = true
  · rw [if_pos b10]
    rw [b10, Bool.or_true] at hsp
    exact brF (by decide) (go (atE hsp.symm))
  rw [if_neg b10]
  have hfr : t.to + k = fr := by
    rcases Nat.lt_or_ge (t.to + k) fr with l | l
    · have h1 := hS0.2.1 (t.to + k) (by omega) l
      have a1 : inB tp n 32 32 (t.to + k) = false := by simpa using b32
      have a2 : inB tp n 10 10 (t.to + k) = false := by simpa using b10
      rw [a1, a2, h1] at hsp
      exact absurd hsp (by decide)
    · omega
  refine brT rfl ⟨nn_of rfl K.R.k, ?_⟩
  refine px_isAt (h := h.srm 0 0) (lo := 46) (hi := 46) K.R (by omega) (by decide) (by decide) (pu ?_)
  rw [hfr]
  by_cases hb : inB tp n 46 46 fr = true
  · rw [if_pos hb]
    rw [if_pos (ek.2 hb)] at hQ
    exact ⟨.inr rfl, hQ⟩
  · rw [if_neg hb]
    rw [if_neg (fun hh => hb (ek.1 hh))] at hQ
    exact ⟨.inl rfl, hQ⟩

/-- what a part's reading must do: as F tells, with d brackets. -/
def SpE (lo q o jn tpa : Nat) (tp : Nat → Nat) (n : Nat) (L : GA) (A : PG) (ow : Nat → Nat) (z0 g p : Nat) (F : Nat → Tk → ER) (d : Nat) (E : Nat → AH → (Option Nat → AH → Prop) → (Nat → AH → Prop) → Prop) : Prop :=
  ∀ (h : AH) (t : Tk) (pa : Nat) (r : ER) (P : Option Nat → AH → Prop) (X : Nat → AH → Prop), ExC h.c lo q o jn tpa tp n L A ow z0 g p t d pa → F pa t = r → 64 * (eE n (fun x => x.2.2) r - t.fr) ≤ h.rc → 1024 * (eE n (fun x => x.2.2) r - t.fr) ≤ h.rs →
    (∀ e pa' t', r = .ok (e, pa', t') → ∀ a h', Fr (WE lo q) h.c h'.c → ExC h'.c lo q o jn tpa tp n L A ow z0 g p t' d pa' → PtR h'.c (Ex.lv e) a e → h'.rc = h.rc - 64 * (t'.fr - t.fr) → h'.rs = h.rs - 1024 * (t'.fr - t.fr) → P (some a) h') →
    (∀ e, r = .error e → ∀ x h', Fr (WE lo q) h.c h'.c → ThR h'.c x e → X x h') →
    cl h fun mc ms => E q (h.srm mc ms) (fun r h3 => ∀ h4, h4 = h3.srm (h.rc - mc) (h.rs - ms) → P r h4) (fun q8 h9 => ∀ h10, h10 = h9.srm (h.rc - mc) (h.rs - ms) → X q8 h10)

theorem PtR.num {c : HC} {a x : Nat} (hl : a < c.sz) (hk : (c.kd a).1 = 10) (hf : c.fi 1000 a = I x) : PtR c (Ex.lv [(0, x)]) a [(0, x)] := ⟨hl, .inl ⟨hk, x, rfl, hf⟩⟩
theorem PtR.own {c : HC} {a : Nat} (hl : a < c.sz) (hk : (c.kd a).1 = 9) : PtR c (Ex.lv [(1, 0)]) a [(1, 0)] := ⟨hl, .inr (.inl ⟨hk, rfl⟩)⟩
theorem PtR.occ {c : HC} {a x : Nat} (hl : a < c.sz) (hk : (c.kd a).1 = 11) (hx : x < 32) (hf : c.fi 1100 a = I x) : PtR c (Ex.lv [(2, x)]) a [(2, x)] := ⟨hl, .inr (.inr (.inl ⟨hk, x, hx, rfl, hf⟩))⟩
theorem PtR.lv1 {c : HC} {d a : Nat} {e : Ex} (X : PtR c d a e) : 1 ≤ Ex.lv e := by
  cases d with
  | zero => exact absurd X (fun hh => hh)
  | succ d =>
    obtain ⟨r, hr⟩ := PtR.runs (own := 0) (val := fun _ => 0) X
    cases e with
    | nil => have := hr []; exact absurd this (by simp [Ex.run])
    | cons x l =>
      have key : ∀ (e : Ex) (st : List Int32), Ex.lv e = 0 → (Ex.run 0 (fun _ => 0) e st).length ≤ st.length := by
        intro e
        induction e with
        | nil => intro st _; exact Nat.le_refl _
        | cons c l ih =>
          intro st h0
          have h1 : (if c.1 ≤ 2 then 1 else 0) + Ex.lv l = 0 := h0
          have hc : ¬ c.1 ≤ 2 := fun hh => by rw [if_pos hh] at h1; omega
          rw [if_neg hc] at h1
          have h2 := ih (stp 0 (fun _ => 0) st c) (by omega)
          have h3 : (stp 0 (fun _ => 0) st c).length ≤ st.length := by
            unfold stp
            rw [if_neg (by omega), if_neg (by omega), if_neg (by omega)]
            split
            · split
              · simp
              · exact Nat.le_refl _
            · split
              · simp
              · exact Nat.le_refl _
          exact Nat.le_trans h2 h3
      rcases Nat.lt_or_ge 0 (Ex.lv (x :: l)) with l0 | l0
      · exact l0
      · have h9 := key (x :: l) [] (by omega)
        rw [hr []] at h9
        exact absurd h9 (by simp)

theorem g_numOcc {d : Nat} : ∀ (h : AH) (t : Tk) (pa : Nat) (r : ER) (P : Option Nat → AH → Prop) (X : Nat → AH → Prop), t.kd = 3 → ExC h.c lo q o jn tpa tp n L A ow z0 g p t d pa → pNum tp n A p pa t = r → 64 * (eE n (fun x => x.2.2) r - t.fr) ≤ h.rc → 1024 * (eE n (fun x => x.2.2) r - t.fr) ≤ h.rs →
    (∀ e pa' t', r = .ok (e, pa', t') → ∀ a h', Fr (WE lo q) h.c h'.c → ExC h'.c lo q o jn tpa tp n L A ow z0 g p t' d pa' → PtR h'.c (Ex.lv e) a e → h'.rc = h.rc - 64 * (t'.fr - t.fr) → h'.rs = h.rs - 1024 * (t'.fr - t.fr) → P (some a) h') →
    (∀ e, r = .error e → ∀ x h', Fr (WE lo q) h.c h'.c → ThR h'.c x e → X x h') →
    cl h fun mc ms => wp_X2_numberOrOcc q (h.srm mc ms) (fun r h3 => ∀ h4, h4 = h3.srm (h.rc - mc) (h.rs - ms) → P r h4) (fun q8 h9 => ∀ h10, h10 = h9.srm (h.rc - mc) (h.rs - ms) → X q8 h10) := by
  intro h t pa r P X hk C er hc hs h1 h0
  have W := C.B.W
  have hk3 := W.kn p C.hp
  have hnu := C.K.it.nu hk
  have le0 := C.K.le
  have m := C.m
  have far : t.fr + 1 ≤ eE n (fun x : Ex × Nat × Tk => x.2.2) r := eE_ge1 le0 (fun a ha => by
    obtain ⟨e, q', t'⟩ := a
    have := (pNum_ok W C.hp m C.K.it hk e q' t' (er.trans ha))
    have h9 := this.2.1
    have h8 : 1 ≤ e.length := by
      have h7 := this.1.h 0
      cases e with
      | nil => exact absurd h7 (by simp [Ex.hgt])
      | cons x l => simp
    show t.fr + 1 ≤ t'.fr
    omega)
  generalize hE : eE n (fun x : Ex × Nat × Tk => x.2.2) r = E at *
  refine ⟨64 * (E - t.fr), 1024 * (E - t.fr), ⟨hc, hs⟩, ?_⟩
  dsimp only
  unfold wp_X2_numberOrOcc
  refine ⟨nn_of rfl C.K.R.k, ?_⟩
  refine px_isPoint (h := (h.srm (64 * (E - t.fr)) (1024 * (E - t.fr))).srm 0 0) C.K ?_
  intro h4 e4
  have e4' : h4 = h.srm (64 * (E - t.fr)) (1024 * (E - t.fr)) := by rw [e4]; rfl
  have c4 : h4.c = h.c := by rw [e4']; rfl
  have rc4 : h4.rc = 64 * (E - t.fr) := by rw [e4']; rfl
  have rs4 : h4.rs = 1024 * (E - t.fr) := by rw [e4']; rfl
  clear e4 e4'
  have C4 : ExC h4.c lo q o jn tpa tp n L A ow z0 g p t d pa := by rw [c4]; exact C
  have F4 : Fr (WE lo q) h.c h4.c := by rw [c4]; exact Fr.refl _
  unfold pNum at er
  by_cases hp : isSg (nxt tp n t) 46 = true
  rotate_left
  · rw [if_neg hp] at er ⊢
    refine brT rfl ⟨nn_of rfl C4.K.R.k, ?_⟩
    refine g_counts C4 (by omega) (by omega) ?_ ?_
    rotate_left
    · intro e24
      rw [if_pos e24] at er
      exact ThR.we' F4 (h0 _ er.symm)
    intro n24 h9 F9 C9 rc9 rs9
    rw [if_neg n24] at er
    have F9' := F4.trans F9
    refine brT rfl ⟨⟨by omega, by omega⟩, ?_⟩
    intro h38 e38
    have F38 : Fr W0 h9.c h38.c := by rw [e38]; exact (Fr.refl _).new _ _ _
    have C38 := C9.keep0 F38
    have r38 : h38.rc = h9.rc - 1 ∧ h38.rs = h9.rs - 1 := by rw [e38]; exact ⟨rfl, rfl⟩
    have z38 : h38.sz = h9.sz + 1 := by rw [e38]; rfl
    have k38 : (h38.kd h9.sz).1 = 10 := by rw [e38, new_kd, if_pos rfl]
    refine ⟨nn_of rfl C38.K.R.k, ?_⟩
    refine g_number C38.K (by omega) (by omega) ?_ (fun hh => absurd hk hh)
    intro _ h42 F42 K42 rc42 rs42
    have C42 := C38.go F42 K42
    have k42 : (h42.kd h9.sz).1 = 10 := by
      show (h42.c.kd h9.sz).1 = 10
      rw [F42.kd _ (by show h9.sz < h38.sz; omega)]; exact k38
    have z42 : h38.sz ≤ h42.sz := F42.sz
    unfold wp_X10_init wp_X7_init
    intro h3 e3
    have e3' : h3 = h42.srm 0 0 := by rw [e3]; rfl
    rw [e3']
    refine ⟨nn_of rfl k42, ?_⟩
    intro h50 e50 h51 e51 h52 e52
    have c52 : h52.c = h50.c := by rw [e52, e51]; rfl
    have G50 : Fr (fun f a => f = 1000 ∧ a = h9.sz) h42.c h50.c := by rw [e50]; exact Fr.sfi (h := h42.srm 0 0) (Fr.refl h42.c) _ (fun _ => ⟨rfl, rfl⟩)
    have FF : Fr (WE lo q) h.c h50.c := ((F9'.trans F38.we0).trans F42.we).trans' G50 (fun f a ha hh => by
      have h9' : h.c.sz ≤ h9.c.sz := F9'.sz
      have h9s : h9.c.sz = h9.sz := rfl
      omega)
    have C50 : ExC h50.c lo q o jn tpa tp n L A ow z0 g p (nxt tp n t) d (pa + 1) := by
      have lq := C42.K.R.b
      have qs : q < h9.sz := C9.K.R.l
      exact ⟨C42.K.keep G50 (fun f a hh => ⟨by omega, .inr (.inl (by omega))⟩), C9.B.keepR ((F38.we0.trans F42.we).trans' G50 (fun f a ha hh => by have h9s : h9.c.sz = h9.sz := rfl; omega) : Fr (WE lo q) h9.c h50.c) (fun _ _ hh => hh.fl), by rw [G50.fr 309 q C42.K.R.l (by omega)]; exact C42.P, C42.hp, by rw [G50.fi 303 q C42.K.R.l (by omega)]; exact C42.f3, by rw [G50.fi 304 q C42.K.R.l (by omega)]; exact C42.f4, C42.m, C42.d6, C42.J.keep G50⟩
    have eE9 : E = (nxt tp n t).fr := by rw [← hE, ← er]; rfl
    refine h1 _ _ _ er.symm h9.sz h52 (by rw [c52]; exact FF) (by rw [c52]; exact C50) ?_ (by rw [e52, eE9]; rfl) (by rw [e52, eE9]; rfl)
    rw [c52]
    refine PtR.num ?_ ?_ ?_
    · show h9.sz < h50.sz
      rw [e50]; show h9.sz < h42.sz; omega
    · rw [G50.kd _ (by show h9.sz < h42.sz; omega)]; exact k42
    · rw [e50]; exact sfi_same _ _ _ _
  -- an occ
  rw [if_pos hp] at er ⊢
  refine brF (by decide) ⟨nn_of rfl C4.K.R.k, ?_⟩
  rw [show h4.fr 309 q = some (L.pa p) from C4.P]
  refine ⟨nn_of rfl (C4.B.pr p C4.hp).R.k, ?_⟩
  rw [adr_some, show h4.fi 306 q = I t.nu from C4.K.T.f6 ((kd3 C4.K).1 hk).1]
  refine px_childrenP (h := h4.srm 0 0) C4 (pu ?_)
  by_cases hlt : A.g.kn p < t.nu
  · rw [if_pos hlt] at er
    refine brF (fun hh => by have := (I_le (by omega) (by omega)).1 hh; omega) ⟨nn_of rfl C4.K.R.k, ?_⟩
    exact thw_in F4 C4.K (kk := 3) (by decide) (by rfl) (by unfold thK; rw [if_neg (by decide)]) (by omega) (by omega) (h0 _ er.symm)
  rw [if_neg hlt] at er
  refine brT ((I_le (by omega) (by omega)).2 (by omega)) ⟨nn_of rfl C4.K.R.k, ?_⟩
  refine g_counts C4 (by omega) (by omega) ?_ ?_
  rotate_left
  · intro e24
    rw [if_pos e24] at er
    exact ThR.we' F4 (h0 _ er.symm)
  intro n24 h9 F9 C9 rc9 rs9
  rw [if_neg n24] at er
  have F9' := F4.trans F9
  refine brF (by decide) ⟨⟨by omega, by omega⟩, ?_⟩
  intro h38 e38
  have F38 : Fr W0 h9.c h38.c := by rw [e38]; exact (Fr.refl _).new _ _ _
  have C38 := C9.keep0 F38
  have r38 : h38.rc = h9.rc - 1 ∧ h38.rs = h9.rs - 1 := by rw [e38]; exact ⟨rfl, rfl⟩
  have z38 : h38.sz = h9.sz + 1 := by rw [e38]; rfl
  have k38 : (h38.kd h9.sz).1 = 11 := by rw [e38, new_kd, if_pos rfl]
  refine ⟨nn_of rfl C38.K.R.k, ?_⟩
  generalize ho : pOc tp n A p t.nu (nxt tp n t) = ro at er
  have ero : rOc tp n A p t = ro := by unfold rOc; rw [if_pos hk, if_pos (by omega)]; exact ho
  refine g_occ C38 ero (by omega) (by omega) ?_ ?_
  rotate_left
  · intro e he
    rw [he] at er
    exact ThR.we' (F9'.trans F38.we0) (h0 _ er.symm)
  intro u t2 eu _ _ h21 F21 C21 rc21 rs21
  rw [eu] at er
  obtain ⟨o1, o2, o3, o4, o5⟩ := pOc_ok W C.hp (by omega) C.K.it.nx (ho.trans eu)
  have k21 : (h21.kd h9.sz).1 = 11 := by
    show (h21.c.kd h9.sz).1 = 11
    rw [F21.kd _ (by show h9.sz < h38.sz; omega)]; exact k38
  have z21 : h38.sz ≤ h21.sz := F21.sz
  unfold wp_X11_init wp_X7_init
  intro h3 e3
  have e3' : h3 = h21.srm 0 0 := by rw [e3]; rfl
  rw [e3']
  refine ⟨nn_of rfl k21, ?_⟩
  intro h29 e29 h30 e30
  have c30 : h30.c = h29.c := by rw [e30]; rfl
  have G30 : Fr (fun f a => f = 1100 ∧ a = h9.sz) h21.c h30.c := by rw [c30, e29]; exact Fr.sfi (h := h21.srm 0 0) (Fr.refl h21.c) _ (fun _ => ⟨rfl, rfl⟩)
  have qs : q < h9.sz := C9.K.R.l
  have FF : Fr (WE lo q) h.c h30.c := ((F9'.trans F38.we0).trans F21).trans' G30 (fun f a ha hh => by
    have h9' : h.c.sz ≤ h9.c.sz := F9'.sz
    have h9s : h9.c.sz = h9.sz := rfl
    omega)
  have C30 : ExC h30.c lo q o jn tpa tp n L A ow z0 g p t2 d (pa + 1) := by
    have lq := C21.K.R.b
    exact ⟨C21.K.keep G30 (fun f a hh => ⟨by omega, .inr (.inl (by omega))⟩), C9.B.keepR ((F38.we0.trans F21).trans' G30 (fun f a ha hh => by have h9s : h9.c.sz = h9.sz := rfl; omega) : Fr (WE lo q) h9.c h30.c) (fun _ _ hh => hh.fl), by rw [G30.fr 309 q C21.K.R.l (by omega)]; exact C21.P, C21.hp, by rw [G30.fi 303 q C21.K.R.l (by omega)]; exact C21.f3, by rw [G30.fi 304 q C21.K.R.l (by omega)]; exact C21.f4, C21.m, C21.d6, C21.J.keep G30⟩
  have r30 : h30.rc = h21.rc ∧ h30.rs = h21.rs := by rw [e30]; exact ⟨rfl, rfl⟩
  refine ⟨nn_of rfl C30.K.R.k, ?_⟩
  refine g_reads C30.K (by omega) (by omega) ?_
  intro h34 F34 K34 rc34 rs34 h52 e52
  have c52 : h52.c = h34.c := by rw [e52]; rfl
  have eE9 : E = (nxt tp n t2).fr := by rw [← hE, ← er]; rfl
  refine h1 _ _ _ er.symm h9.sz h52 (by rw [c52]; exact FF.trans F34.we) (by rw [c52]; exact C30.go F34 K34) ?_ (by rw [e52, eE9]; rfl) (by rw [e52, eE9]; rfl)
  rw [c52]
  have X30 : PtR h30.c (Ex.lv [(2, u)]) h9.sz [(2, u)] := by
    refine PtR.occ ?_ ?_ o1.1 ?_
    · have : h21.c.sz ≤ h30.c.sz := G30.sz
      have h9' : h21.c.sz = h21.sz := rfl
      omega
    · rw [G30.kd _ (by show h9.sz < h21.sz; omega)]; exact k21
    · rw [c30, e29]; exact sfi_same _ _ _ _
  exact X30.we F34.we
end
