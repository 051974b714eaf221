/-! plain: ua -/
set_option maxRecDepth 100000
section
variable {h : AH} {o x z g : Nat} {L : GA} {A : PG} {ind : Nat → Int32}

/-- shades being made: where their things lie. -/
def ShW (c : HC) (o x z : Nat) (L : GA) (A : PG) (g : Nat) (ind : Nat → Int32) : Prop :=
  ((c.kd x).1 = 14) ∧
  (x + 18 ≤ c.sz) ∧
  (c.fr 1400 x = some (x + 1)) ∧
  (c.kd (x + 1) = (47, 8)) ∧
  (∀ i, i < 8 → c.ar (x + 1) i = some (x + 2 + i)) ∧
  (∀ i, i < 8 → c.kd (x + 2 + i) = (40, 12)) ∧
  (c.fr 1401 x = some (x + 10)) ∧
  (c.kd (x + 10) = (47, 5)) ∧
  (∀ i, i < 5 → c.ar (x + 10) i = some (x + 11 + i)) ∧
  (∀ i, i < 5 → c.kd (x + 11 + i) = (40, 32)) ∧
  (c.fr 1402 x = some (x + 16)) ∧
  (c.kd (x + 16) = (40, 8)) ∧
  (c.fr 1403 x = some (x + 17)) ∧
  (c.kd (x + 17) = (40, 8)) ∧
  (c.fr 1408 x = some o) ∧
  (o < x) ∧
  ((c.kd o).1 = 1) ∧
  (c.fr 103 o = some g) ∧
  (z ≤ x) ∧
  (CgR (c.cut z) L A g ind)
theorem ShW.k {c : HC} {o x z : Nat} {L : GA} {A : PG} {g : Nat} {ind : Nat → Int32} (h9 : ShW c o x z L A g ind) : (c.kd x).1 = 14 := h9.1
theorem ShW.l {c : HC} {o x z : Nat} {L : GA} {A : PG} {g : Nat} {ind : Nat → Int32} (h9 : ShW c o x z L A g ind) : x + 18 ≤ c.sz := h9.2.1
theorem ShW.f0 {c : HC} {o x z : Nat} {L : GA} {A : PG} {g : Nat} {ind : Nat → Int32} (h9 : ShW c o x z L A g ind) : c.fr 1400 x = some (x + 1) := h9.2.2.1
theorem ShW.k0 {c : HC} {o x z : Nat} {L : GA} {A : PG} {g : Nat} {ind : Nat → Int32} (h9 : ShW c o x z L A g ind) : c.kd (x + 1) = (47, 8) := h9.2.2.2.1
theorem ShW.a0 {c : HC} {o x z : Nat} {L : GA} {A : PG} {g : Nat} {ind : Nat → Int32} (h9 : ShW c o x z L A g ind) : ∀ i, i < 8 → c.ar (x + 1) i = some (x + 2 + i) := h9.2.2.2.2.1
theorem ShW.k1 {c : HC} {o x z : Nat} {L : GA} {A : PG} {g : Nat} {ind : Nat → Int32} (h9 : ShW c o x z L A g ind) : ∀ i, i < 8 → c.kd (x + 2 + i) = (40, 12) := h9.2.2.2.2.2.1
theorem ShW.f1 {c : HC} {o x z : Nat} {L : GA} {A : PG} {g : Nat} {ind : Nat → Int32} (h9 : ShW c o x z L A g ind) : c.fr 1401 x = some (x + 10) := h9.2.2.2.2.2.2.1
theorem ShW.k2 {c : HC} {o x z : Nat} {L : GA} {A : PG} {g : Nat} {ind : Nat → Int32} (h9 : ShW c o x z L A g ind) : c.kd (x + 10) = (47, 5) := h9.2.2.2.2.2.2.2.1
theorem ShW.a2 {c : HC} {o x z : Nat} {L : GA} {A : PG} {g : Nat} {ind : Nat → Int32} (h9 : ShW c o x z L A g ind) : ∀ i, i < 5 → c.ar (x + 10) i = some (x + 11 + i) := h9.2.2.2.2.2.2.2.2.1
theorem ShW.k3 {c : HC} {o x z : Nat} {L : GA} {A : PG} {g : Nat} {ind : Nat → Int32} (h9 : ShW c o x z L A g ind) : ∀ i, i < 5 → c.kd (x + 11 + i) = (40, 32) := h9.2.2.2.2.2.2.2.2.2.1
theorem ShW.f2 {c : HC} {o x z : Nat} {L : GA} {A : PG} {g : Nat} {ind : Nat → Int32} (h9 : ShW c o x z L A g ind) : c.fr 1402 x = some (x + 16) := h9.2.2.2.2.2.2.2.2.2.2.1
theorem ShW.k4 {c : HC} {o x z : Nat} {L : GA} {A : PG} {g : Nat} {ind : Nat → Int32} (h9 : ShW c o x z L A g ind) : c.kd (x + 16) = (40, 8) := h9.2.2.2.2.2.2.2.2.2.2.2.1
theorem ShW.f3 {c : HC} {o x z : Nat} {L : GA} {A : PG} {g : Nat} {ind : Nat → Int32} (h9 : ShW c o x z L A g ind) : c.fr 1403 x = some (x + 17) := h9.2.2.2.2.2.2.2.2.2.2.2.2.1
theorem ShW.k5 {c : HC} {o x z : Nat} {L : GA} {A : PG} {g : Nat} {ind : Nat → Int32} (h9 : ShW c o x z L A g ind) : c.kd (x + 17) = (40, 8) := h9.2.2.2.2.2.2.2.2.2.2.2.2.2.1
theorem ShW.f8 {c : HC} {o x z : Nat} {L : GA} {A : PG} {g : Nat} {ind : Nat → Int32} (h9 : ShW c o x z L A g ind) : c.fr 1408 x = some o := h9.2.2.2.2.2.2.2.2.2.2.2.2.2.2.1
theorem ShW.ol {c : HC} {o x z : Nat} {L : GA} {A : PG} {g : Nat} {ind : Nat → Int32} (h9 : ShW c o x z L A g ind) : o < x := h9.2.2.2.2.2.2.2.2.2.2.2.2.2.2.2.1
theorem ShW.ok {c : HC} {o x z : Nat} {L : GA} {A : PG} {g : Nat} {ind : Nat → Int32} (h9 : ShW c o x z L A g ind) : (c.kd o).1 = 1 := h9.2.2.2.2.2.2.2.2.2.2.2.2.2.2.2.2.1
theorem ShW.fg {c : HC} {o x z : Nat} {L : GA} {A : PG} {g : Nat} {ind : Nat → Int32} (h9 : ShW c o x z L A g ind) : c.fr 103 o = some g := h9.2.2.2.2.2.2.2.2.2.2.2.2.2.2.2.2.2.1
theorem ShW.zx {c : HC} {o x z : Nat} {L : GA} {A : PG} {g : Nat} {ind : Nat → Int32} (h9 : ShW c o x z L A g ind) : z ≤ x := h9.2.2.2.2.2.2.2.2.2.2.2.2.2.2.2.2.2.2.1
theorem ShW.C {c : HC} {o x z : Nat} {L : GA} {A : PG} {g : Nat} {ind : Nat → Int32} (h9 : ShW c o x z L A g ind) : CgR (c.cut z) L A g ind := h9.2.2.2.2.2.2.2.2.2.2.2.2.2.2.2.2.2.2.2
/-- what may be written while they are made. -/
def WSa (x f a : Nat) : Prop := (a = x ∧ 1404 ≤ f ∧ f ≤ 1407) ∨ (f = 0 ∧ x + 2 ≤ a ∧ a ≠ x + 10) ∨ x + 18 ≤ a
def WS (x m : Nat) : Nat → Nat → Prop := fun f a => (a = x ∧ 1404 ≤ f ∧ f ≤ 1406) ∨ (f = 0 ∧ x + 2 ≤ a ∧ a ≠ x + 10 ∧ a ≠ x + 17 ∧ a < x + 18 ∧ ¬ (x + 11 ≤ a ∧ a < x + 11 + m))
theorem WS.wa {m f a : Nat} (hh : WS x m f a) : WSa x f a := by
  unfold WS at hh
  unfold WSa
  omega
theorem WS.mono {m n f a : Nat} (hh : WS x m f a) (hn : n ≤ m) : WS x n f a := by
  unfold WS at *
  omega
theorem ShW.keep {W : Nat → Nat → Prop} {c c' : HC} (S : ShW c o x z L A g ind) (F : Fr W c c') (hW : ∀ f a, W f a → WSa x f a) : ShW c' o x z L A g ind := by
  have hl := S.l
  have hzx := S.zx
  have hol := S.ol
  have kd : ∀ a, a < x + 18 → c'.kd a = c.kd a := fun a ha => F.kd a (by omega)
  have fr : ∀ f a, a < x + 18 → ¬ (1404 ≤ f ∧ f ≤ 1407) → f ≠ 0 → c'.fr f a = c.fr f a := fun f a ha h1 h2 => F.fr f a (by omega) (fun hh => by have := hW f a hh; unfold WSa at this; omega)
  have ar : ∀ a, a = x + 1 ∨ a = x + 10 → c'.ar a = c.ar a := fun a ha => F.ar a (by omega) (fun hh => by have := hW 0 a hh; unfold WSa at this; omega)
  refine ⟨by rw [kd _ (by omega)]; exact S.k, Nat.le_trans S.l F.sz, by rw [fr _ _ (by omega) (by omega) (by omega)]; exact S.f0, by rw [kd _ (by omega)]; exact S.k0, fun i hi => by rw [ar _ (.inl rfl)]; exact S.a0 i hi, fun i hi => by rw [kd _ (by omega)]; exact S.k1 i hi,
    by rw [fr _ _ (by omega) (by omega) (by omega)]; exact S.f1, by rw [kd _ (by omega)]; exact S.k2, fun i hi => by rw [ar _ (.inr rfl)]; exact S.a2 i hi, fun i hi => by rw [kd _ (by omega)]; exact S.k3 i hi,
    by rw [fr _ _ (by omega) (by omega) (by omega)]; exact S.f2, by rw [kd _ (by omega)]; exact S.k4, by rw [fr _ _ (by omega) (by omega) (by omega)]; exact S.f3, by rw [kd _ (by omega)]; exact S.k5, by rw [fr _ _ (by omega) (by omega) (by omega)]; exact S.f8,
    S.ol, by rw [kd _ (by omega)]; exact S.ok, by rw [fr _ _ (by omega) (by omega) (by omega)]; exact S.fg, S.zx, S.C.kc (by omega) F (fun f a ha hh => by have := hW f a hh; unfold WSa at this; omega)⟩
theorem ShW.cg {c : HC} (S : ShW c o x z L A g ind) : CgR c L A g ind := S.C.up (by have := S.zx; have := S.l; omega)
/-- shades as far as they are known, in the round r. -/
def ShD (c : HC) (x : Nat) (t : SSt) (r : Nat) (ah : Nat → Nat) : Prop :=
  (c.fi 1404 x = I r) ∧
  (c.fi 1405 x = if t.cr = 0 then -1 else I t.cr) ∧
  (c.fi 1406 x = if t.mu then I r else -1) ∧
  (∀ s, s < 8 → c.ai (x + 16) s = I (t.mn s)) ∧
  (∀ s k, s < 8 → k < t.mn s → c.ai (x + 2 + s) k = t.sh s k) ∧
  (∀ s, s < 8 → c.ai (x + 17) s = I (ah s)) ∧
  (∀ s, t.mn s ≤ 12) ∧
  (∀ s, ah s ≤ t.mn s) ∧
  (1 ≤ r ∧ r ≤ 97) ∧
  (t.cr ≤ r)
theorem ShD.r4 {c : HC} {x : Nat} {t : SSt} {r : Nat} {ah : Nat → Nat} (h9 : ShD c x t r ah) : c.fi 1404 x = I r := h9.1
theorem ShD.r5 {c : HC} {x : Nat} {t : SSt} {r : Nat} {ah : Nat → Nat} (h9 : ShD c x t r ah) : c.fi 1405 x = if t.cr = 0 then -1 else I t.cr := h9.2.1
theorem ShD.r6 {c : HC} {x : Nat} {t : SSt} {r : Nat} {ah : Nat → Nat} (h9 : ShD c x t r ah) : c.fi 1406 x = if t.mu then I r else -1 := h9.2.2.1
theorem ShD.mn {c : HC} {x : Nat} {t : SSt} {r : Nat} {ah : Nat → Nat} (h9 : ShD c x t r ah) : ∀ s, s < 8 → c.ai (x + 16) s = I (t.mn s) := h9.2.2.2.1
theorem ShD.sh {c : HC} {x : Nat} {t : SSt} {r : Nat} {ah : Nat → Nat} (h9 : ShD c x t r ah) : ∀ s k, s < 8 → k < t.mn s → c.ai (x + 2 + s) k = t.sh s k := h9.2.2.2.2.1
theorem ShD.am {c : HC} {x : Nat} {t : SSt} {r : Nat} {ah : Nat → Nat} (h9 : ShD c x t r ah) : ∀ s, s < 8 → c.ai (x + 17) s = I (ah s) := h9.2.2.2.2.2.1
theorem ShD.b {c : HC} {x : Nat} {t : SSt} {r : Nat} {ah : Nat → Nat} (h9 : ShD c x t r ah) : ∀ s, t.mn s ≤ 12 := h9.2.2.2.2.2.2.1
theorem ShD.al {c : HC} {x : Nat} {t : SSt} {r : Nat} {ah : Nat → Nat} (h9 : ShD c x t r ah) : ∀ s, ah s ≤ t.mn s := h9.2.2.2.2.2.2.2.1
theorem ShD.rb {c : HC} {x : Nat} {t : SSt} {r : Nat} {ah : Nat → Nat} (h9 : ShD c x t r ah) : 1 ≤ r ∧ r ≤ 97 := h9.2.2.2.2.2.2.2.2.1
theorem ShD.cb {c : HC} {x : Nat} {t : SSt} {r : Nat} {ah : Nat → Nat} (h9 : ShD c x t r ah) : t.cr ≤ r := h9.2.2.2.2.2.2.2.2.2
/-- a flag: something new came. -/
def Fg (fl : Int32) (t u : SSt) : Prop := bz fl ∧ (u.mu = false → (u.nw = true ↔ (t.nw = true ∨ fl = 1)))
theorem Fg.refl (t : SSt) : Fg 0 t t := ⟨.inl rfl, fun _ => ⟨.inl, fun hh => hh.elim id (fun e => absurd e (by decide))⟩⟩
theorem Fg.trans {f1 f2 : Int32} {t u v : SSt} (h1 : Fg f1 t u) (h2 : Fg f2 u v) (up : u.mu = true → v.mu = true) : Fg (f1 ||| f2) t v := by
  refine ⟨?_, fun hm => ?_⟩
  · rcases h1.1 with rfl | rfl <;> rcases h2.1 with rfl | rfl
    · exact .inl (by decide)
    · exact .inr (by decide)
    · exact .inr (by decide)
    · exact .inr (by decide)
  · have hu : u.mu = false := by
      cases e : u.mu with
      | false => rfl
      | true => rw [up e] at hm; exact absurd hm (by simp)
    rw [h2.2 hm, h1.2 hu]
    rcases h1.1 with rfl | rfl <;> rcases h2.1 with rfl | rfl
    · rw [show ((0 : Int32) ||| 0) = 0 by decide]; simp
    · rw [show ((0 : Int32) ||| 1) = 1 by decide]; simp
    · rw [show ((1 : Int32) ||| 0) = 1 by decide]; simp
    · rw [show ((1 : Int32) ||| 1) = 1 by decide]; simp
theorem shOf_congr {G : Gv} {s : Nat} {r r' : Nat → Int32} : ∀ n, (∀ i, i < n → r (G.ins s + i) = r' (G.ins s + i)) → G.shOf s r n = G.shOf s r' n
  | 0, _ => rfl
  | n + 1, hh => by
    show G.shOf s r n ||| _ = G.shOf s r' n ||| _
    rw [shOf_congr n (fun i hi => hh i (by omega)), hh n (by omega)]

theorem px_comes (S : ShW h.c o x z L A g ind) {t : SSt} {r : Nat} {ah : Nat → Nat} (D : ShD h.c x t r ah) {p a : Nat} (hp : p < A.g.nP) (ha : h.kd a = (40, 32)) (hal : a < h.sz) {row : Nat → Int32} (hr : ∀ i, i < 32 → h.ai a i = row i) {Q : Int32 → AH → Prop}
    (hQ : ∀ fl h' u, u = (t.crc r (fself row).isSome).keep (A.g.sy p 0) (A.g.shOf (A.g.sy p 0) row (A.g.cnt (A.g.sy p 0) - A.g.ins (A.g.sy p 0))) → Fr (WS x 5) h.c h'.c → h'.sz = h.sz → h'.rc = h.rc → h'.rs = h.rs → ShD h'.c x u r ah → Fg fl t u → Q fl h') : wp_X14_comes x (some (L.pa p)) (some a) h Q := by
  have hl := S.l
  have hrb := D.rb
  have hcb := D.cb
  unfold wp_X14_comes
  refine ⟨nn_of rfl S.k, ?_⟩
  obtain ⟨t1, ht1⟩ : ∃ t1, t1 = t.crc r (fself row).isSome := ⟨_, rfl⟩
  rw [← ht1] at hQ
  refine ⟨fun _ U => Fr (WS x 5) h.c U.c ∧ U.sz = h.sz ∧ U.rc = h.rc ∧ U.rs = h.rs ∧ U.ai = h.ai ∧ ShD U.c x t1 r ah, ?_, ?_⟩
  · have r5 : h.fi 1405 x = if t.cr = 0 then -1 else I t.cr := D.r5
    by_cases e0 : t.cr = 0
    · rw [if_pos e0] at r5
      rw [r5]
      refine brF (by decide) (px_onItself (h := h.srm 0 0) ha (by decide) (by decide) rfl (pu ?_))
      rw [show fself ((h.srm 0 0).ai a) = fself row from fself_congr' hr]
      cases hf : fself row with
      | none =>
        have e1 : t1 = t := by
          rw [ht1, hf]
          unfold SSt.crc
          exact if_neg (fun hh => by simp at hh)
        rw [e1]
        exact brT (by decide) ⟨Fr.refl _, rfl, rfl, rfl, rfl, D⟩
      | some k =>
        have hk : k < 32 := (fstN_some.1 hf).1
        have e1 : t1 = SSt.mk t.mn t.sh r t.mu t.nw := by
          rw [ht1, hf]
          unfold SSt.crc
          exact if_pos ⟨e0, rfl⟩
        refine brF (I_nonneg (by omega)) ⟨nn_of rfl S.k, ?_⟩
        intro h10 e10
        have r4 : h.fi 1404 x = I r := D.r4
        have F : Fr (WS x 5) h.c h10.c := by rw [e10]; exact (Fr.refl _).sfi _ (fun _ => .inl ⟨rfl, by decide, by decide⟩)
        have fi : ∀ f, f ≠ 1405 → h10.fi f x = h.fi f x := fun f hf => by rw [e10]; exact sfi_ne _ _ _ _ hf
        have ai : h10.ai = h.ai := by rw [e10]; rfl
        refine ⟨F, by rw [e10]; rfl, by rw [e10]; rfl, by rw [e10]; rfl, ai, ?_⟩
        rw [e1]
        refine ⟨(fi _ (by decide)).trans D.r4, ?_, (fi _ (by decide)).trans D.r6, fun s hs => ?_, fun s k hs hk => ?_, fun s hs => ?_, D.b, D.al, D.rb, Nat.le_refl _⟩
        · show h10.fi 1405 x = if r = 0 then -1 else I r
          rw [e10, sfi_same, r4, if_neg (by omega)]
        · show h10.ai _ _ = _
          rw [ai]; exact D.mn s hs
        · show h10.ai _ _ = _
          rw [ai]; exact D.sh s k hs hk
        · show h10.ai _ _ = _
          rw [ai]; exact D.am s hs
    · rw [if_neg e0] at r5
      have e1 : t1 = t := by
        rw [ht1]
        unfold SSt.crc
        exact if_neg (fun hh => e0 hh.1)
      rw [r5, e1]
      exact brT (by rw [show (0 : Int32) = I 0 from rfl]; exact (I_le (by omega) (by omega)).2 (Nat.zero_le _)) ⟨Fr.refl _, rfl, rfl, rfl, rfl, D⟩
  rintro _ U ⟨F, us, uc, ur, ua, D1⟩
  have S1 := S.keep F (fun f a hh => hh.wa)
  have C1 := S1.cg
  have P := C1.X.S.pr p hp
  have hs0 : A.g.sy p 0 < A.g.nS := C1.W.sy p 0 hp (Nat.zero_le _)
  have SY := C1.X.S.sy _ hs0
  have hnS := C1.W.nS
  have hic := C1.W.ic _ hs0
  have hct := C1.W.cnt _ hs0
  have hin := C1.W.ins _ hs0
  have hnw : t1.nw = t.nw ∧ t1.mn = t.mn := by
    rw [ht1]
    unfold SSt.crc
    split <;> exact ⟨rfl, rfl⟩
  obtain ⟨s, hes⟩ : ∃ s, s = A.g.sy p 0 := ⟨_, rfl⟩
  rw [← hes] at hs0 SY hic hct hin hQ
  have e7 : U.fr 701 (L.pa p) = some (L.ql p) := P.sf
  rw [adr_some, e7, adr_some]
  refine ⟨nn_of rfl P.k, nn_of rfl P.sl.k, ?_⟩
  refine px_sym (h := U.srm 0 0) (k := 0) P (Nat.zero_le _) (pu ?_)
  rw [← hes]
  refine ⟨.inr (nn_of rfl SY.k), ?_⟩
  rw [adr_some]
  obtain ⟨nO, hnO⟩ : ∃ nO, nO = A.g.cnt s - A.g.ins s := ⟨_, rfl⟩
  rw [← hnO] at hQ
  refine xlp_cnt nO (fun n q V => q = (A.g.shOf s row n, I n) ∧ V = U) ⟨rfl, rfl⟩ ?_
  rintro n q V K hn ⟨eq, eV⟩ hK
  rw [eq, eV]
  dsimp only
  have ei : U.fi 602 (L.sa s) = I (A.g.ins s) := SY.ins
  refine ⟨nn_of rfl SY.k, px_count (h := U.srm 0 0) SY (pu ⟨nn_of rfl SY.k, ?_⟩)⟩
  rw [ei, I_sub hic, ← hnO]
  by_cases en : n = nO
  rotate_left
  · refine brF (fun hh => by have := (I_le (by omega) (by omega)).1 hh; omega) ?_
    rw [I_add, I_ni (by omega), adr_some, ua, hr _ (by omega), show (4 : Int32) * I n = I (4 * n) from I_mul 4 n]
    refine ⟨ix_of rfl (show U.kd a = (40, 32) from (F.kd a hal).trans ha) (by omega) (by decide), hK _ _ (by omega) ⟨Prod.ext rfl (I_add n 1), rfl⟩⟩
  have f8 : U.fr 1408 x = some o := S1.f8
  have fg : U.fr 103 o = some g := S1.fg
  have f4 : U.fr 400 g = some L.sl := C1.X.O.s1
  have f2 : U.fr 1402 x = some (x + 16) := S1.f2
  have f0 : U.fr 1400 x = some (x + 1) := S1.f0
  have a0 : U.ar (x + 1) s = some (x + 2 + s) := S1.a0 s (by omega)
  have k1 : U.kd (x + 2 + s) = (40, 12) := S1.k1 s (by omega)
  have k4 : U.kd (x + 16) = (40, 8) := S1.k4
  have k0 : U.kd (x + 1) = (47, 8) := S1.k0
  have mn : U.ai (x + 16) s = I (t1.mn s) := D1.mn s (by omega)
  have hb := D1.b s
  refine brT (by rw [en]; exact (I_le (by omega) (by omega)).2 (Nat.le_refl _)) ?_
  rw [f8, adr_some, fg, adr_some, f4, adr_some]
  refine ⟨nn_of rfl S1.k, nn_of rfl S1.ok, nn_of rfl C1.X.O.k, nn_of rfl C1.X.O.s2.k, pc_indexOfO (h := U.srm 0 0) C1.X.O.s2 (by omega) (.inl SY.k) hs0 rfl (fun i hi => C1.syI hs0 hi) (pu ?_)⟩
  rw [en]
  clear hK
  obtain ⟨v, hv⟩ : ∃ v, v = A.g.shOf s row nO := ⟨_, rfl⟩
  rw [← hv] at hQ ⊢
  refine xlp_cnt (t1.mn s) (fun k q V => q = I k ∧ V = U ∧ ∀ j, j < k → t1.sh s j ≠ v) ⟨rfl, rfl, fun j hj => absurd hj (Nat.not_lt_zero _)⟩ ?_
  rintro k q V K hk ⟨eq, eV, hne⟩ hK
  rw [eq, eV, f2, adr_some, I_ni (by omega), mn, f0, adr_some, a0, adr_some]
  refine ⟨nn_of rfl S1.k, ix_of rfl k4 (by omega) (by decide), ?_⟩
  by_cases ek : k = t1.mn s
  rotate_left
  · refine brF (fun hh => by have := (I_le (by omega) (by omega)).1 hh; omega) ⟨ix_of rfl k0 (by omega) (by decide), ix_of rfl k1 (by omega) (by decide), ?_⟩
    rw [I_ni (by omega), show U.ai (x + 2 + s) k = t1.sh s k from D1.sh s k (by omega) (by omega)]
    by_cases ev : t1.sh s k = v
    · refine brT ev (hQ 0 U t1 ?_ F us uc ur D1 ?_)
      · unfold SSt.keep
        rw [if_pos]
        cases hf : fstN (fun k => decide (t1.sh s k = v)) (t1.mn s) with
        | some j => rfl
        | none => have := fstN_none.1 hf k (by omega); simp [ev] at this
      · exact ⟨.inl rfl, fun _ => by rw [hnw.1]; exact ⟨.inl, fun hh => hh.elim id (fun e => absurd e (by decide))⟩⟩
    · refine brF ev (hK _ _ (by omega) ⟨I_add k 1, rfl, fun j hj => ?_⟩)
      by_cases ej : j = k
      · rw [ej]; exact ev
      · exact hne j (by omega)
  have hnone : ¬ ((fstN (fun k => decide (t1.sh s k = v)) (t1.mn s)).isSome = true) := by
    rw [fstN_none.2 (fun j hj => by simp [hne j (by omega)])]
    simp
  refine brT (by rw [ek]; exact (I_le (by omega) (by omega)).2 (Nat.le_refl _)) ⟨ix_of rfl k4 (by omega) (by decide), ?_⟩
  by_cases e12 : t1.mn s = 12
  · -- too many
    have ke : t1.keep s v = SSt.mk t1.mn t1.sh t1.cr true true := by
      unfold SSt.keep
      rw [if_neg hnone, if_pos e12]
    have fin : ∀ h41 : AH, h41 = U.sfi 1406 x (I r) → Q 0 h41 := by
      intro h41 e41
      have F41 : Fr (WS x 5) h.c h41.c := by rw [e41]; exact F.sfi _ (fun _ => .inl ⟨rfl, by decide, by decide⟩)
      have fi : ∀ f, f ≠ 1406 → h41.fi f x = U.fi f x := fun f hf => by rw [e41]; exact sfi_ne _ _ _ _ hf
      have ai : h41.ai = U.ai := by rw [e41]; rfl
      refine hQ 0 h41 _ ke.symm F41 (by rw [e41]; exact us) (by rw [e41]; exact uc) (by rw [e41]; exact ur) ?_ ⟨.inl rfl, fun hm => absurd (show true = false from hm) (by simp)⟩
      refine ⟨(fi _ (by decide)).trans D1.r4, (fi _ (by decide)).trans D1.r5, ?_, fun s hs => ?_, fun s k hs hk => ?_, fun s hs => ?_, D1.b, D1.al, D1.rb, D1.cb⟩
      · show h41.fi 1406 x = if true then I r else -1
        rw [e41, sfi_same, if_pos rfl]
      · show h41.ai _ _ = _
        rw [ai]; exact D1.mn s hs
      · show h41.ai _ _ = _
        rw [ai]; exact D1.sh s k hs hk
      · show h41.ai _ _ = _
        rw [ai]; exact D1.am s hs
    refine brT (by rw [e12]; rfl) ?_
    have r6 : U.fi 1406 x = if t1.mu then I r else -1 := D1.r6
    have r4 : U.fi 1404 x = I r := D1.r4
    rw [r4, r6]
    cases hm : t1.mu with
    | true =>
      rw [if_pos rfl]
      exact brT (by rw [show (0 : Int32) = I 0 from rfl]; exact (I_le (by omega) (by omega)).2 (Nat.zero_le _)) fin
    | false =>
      rw [if_neg (by simp)]
      exact brF (by decide) fin
  · -- one more
    refine brF (fun hh => by have := (I_eq (a := t1.mn s) (b := 12) (by omega) (by decide)).1 hh; omega) ⟨ix_of rfl k0 (by omega) (by decide), ix_of rfl k4 (by omega) (by decide), ix_of rfl k1 (by omega) (by decide), ?_⟩
    have ke : t1.keep s v = SSt.mk (updN t1.mn s (t1.mn s + 1)) (updN t1.sh s (updN (t1.sh s) (t1.mn s) v)) t1.cr t1.mu true := by
      unfold SSt.keep
      rw [if_neg hnone, if_neg e12]
    rw [I_ni (by omega)]
    intro h38 e38
    have g2 : h38.fr 1402 x = some (x + 16) := by rw [e38]; exact f2
    have m38 : h38.ai (x + 16) s = I (t1.mn s) := by rw [e38, sai_ai, if_neg (by omega)]; exact mn
    rw [g2, adr_some, m38]
    have kk : h38.kd (x + 16) = (40, 8) := by rw [e38]; exact k4
    refine ⟨ix_of rfl kk (by omega) (by decide), ix_of rfl kk (by omega) (by decide), ?_⟩
    intro h39 e39
    have F38 : Fr (WS x 5) h.c h38.c := by rw [e38]; exact F.sai _ _ (fun _ => .inr ⟨rfl, by omega, by omega, by omega, by omega, by omega⟩)
    have F39 : Fr (WS x 5) h.c h39.c := by rw [e39]; exact F38.sai _ _ (fun _ => .inr ⟨rfl, by omega, by omega, by omega, by omega, by omega⟩)
    have fi : h39.fi = U.fi := by rw [e39, e38]; rfl
    have a16 : h39.ai (x + 16) = updN (U.ai (x + 16)) s (I (t1.mn s) + 1) := by
      rw [e39, sai_ai, if_pos rfl, e38, sai_ai, if_neg (by omega)]
    have asn : ∀ b, b ≠ x + 16 → h39.ai b = if b = x + 2 + s then updN (U.ai (x + 2 + s)) (t1.mn s) v else U.ai b := fun b hb => by
      rw [e39, sai_ai, if_neg hb, e38, sai_ai]
    refine hQ 1 h39 _ ke.symm F39 (by rw [e39, e38]; exact us) (by rw [e39, e38]; exact uc) (by rw [e39, e38]; exact ur) ?_ ⟨.inr rfl, fun _ => ⟨fun _ => .inr rfl, fun _ => rfl⟩⟩
    refine ⟨?_, ?_, ?_, fun s' hs' => ?_, fun s' k' hs' hk' => ?_, fun s' hs' => ?_, fun s' => ?_, fun s' => ?_, D1.rb, D1.cb⟩
    · show h39.fi 1404 x = _
      rw [fi]; exact D1.r4
    · show h39.fi 1405 x = _
      rw [fi]; exact D1.r5
    · show h39.fi 1406 x = _
      rw [fi]; exact D1.r6
    · show h39.ai (x + 16) s' = I (updN t1.mn s (t1.mn s + 1) s')
      rw [a16]
      by_cases e : s' = s
      · rw [e, updN_same, updN_same]; exact I_add _ 1
      · rw [updN_ne _ _ e, updN_ne _ _ e]; exact D1.mn s' hs'
    · show h39.ai (x + 2 + s') k' = updN t1.sh s (updN (t1.sh s) (t1.mn s) v) s' k'
      rw [asn _ (by omega)]
      have hk2 : k' < updN t1.mn s (t1.mn s + 1) s' := hk'
      by_cases e : s' = s
      · rw [e] at hk2 ⊢
        rw [updN_same] at hk2 ⊢
        rw [if_pos rfl]
        by_cases e2 : k' = t1.mn s
        · rw [e2, updN_same, updN_same]
        · rw [updN_ne _ _ e2, updN_ne _ _ e2]; exact D1.sh s k' (by omega) (by omega)
      · rw [updN_ne _ _ e] at hk2 ⊢
        rw [if_neg (by omega)]
        exact D1.sh s' k' hs' hk2
    · show h39.ai (x + 17) s' = _
      rw [asn _ (by omega), if_neg (by omega)]
      exact D1.am s' hs'
    · show updN t1.mn s (t1.mn s + 1) s' ≤ 12
      by_cases e : s' = s
      · rw [e, updN_same]; omega
      · rw [updN_ne _ _ e]; exact D1.b s'
    · show ah s' ≤ updN t1.mn s (t1.mn s + 1) s'
      have := D1.al s'
      by_cases e : s' = s
      · rw [e, updN_same]; rw [e] at this; omega
      · rw [updN_ne _ _ e]; exact this
end
