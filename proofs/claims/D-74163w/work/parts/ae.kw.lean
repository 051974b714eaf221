/-! plain: kw -/
set_option maxRecDepth 100000
section
variable {h : AH} {lo q o jn tpa : Nat} {tp : Nat → Nat} {n : Nat} {t : Tk} {L : GA} {A : PG} {g : Nat} {D D' : TA} {G : Gv} {T : Tv}

/-- a reading of nodes goes on. -/
def ndG (tp : Nat → Nat) (n : Nat) (t : Tk) (r : RN) : Prop := ∀ b, r = .ok b → t.fr + 1 ≤ b.2.fr ∧ isT tp n b.2 ∧ nN n b.2
theorem pKs_g {oth p i dp : Nat} {nd : Option Nat → Nat → Option Nat → Nat → PT → Tk → RN} (hnd : ∀ need dp pa pl P t, isT tp n t → nN n t → ndG tp n t (nd need dp pa pl P t)) : ∀ (r j : Nat) (P : PT) (t : Tk) (b : PT × Tk), isT tp n t → nN n t → pKs tp n A p i dp nd r j P t = .ok b → t.fr ≤ b.2.fr ∧ isT tp n b.2 ∧ nN n b.2
  | 0, j, P, t, b, ht, hn, h => by
    unfold pKs at h
    split at h
    · cases h; exact ⟨Nat.le_refl _, ht, hn⟩
    · split at h
      · cases h
      · rename_i t1 ht1
        cases h
        have a1 := pEat_ok ht ht1
        exact ⟨by show t.fr ≤ t1.fr; omega, a1.2.2.2, pEat_n hn ht1⟩
  | r + 1, j, P, t, b, ht, hn, h => by
    unfold pKs at h
    split at h
    · cases h
    · rename_i t1 ht1
      have a1 := pEat_ok ht ht1
      have n1 := pEat_n hn ht1
      split at h
      · cases h
      · rename_i q hq
        have a2 := hnd _ _ _ _ _ _ a1.2.2.2 n1 q hq
        have a3 := pKs_g (oth := oth) hnd r (j + 1) q.1 q.2 b a2.2.1 a2.2.2 h
        exact ⟨by omega, a3.2⟩
theorem pNd_g {oth : Nat} : ∀ (f : Nat) (need : Option Nat) (dp : Nat) (pa : Option Nat) (pl : Nat) (P : PT) (t : Tk), isT tp n t → nN n t → ndG tp n t (pNd tp n A oth f need dp pa pl P t)
  | 0, need, dp, pa, pl, P, t, _, _ => by
    intro b h
    have h' : (Except.error _ : RN) = .ok _ := h
    exact absurd h' (by simp)
  | f + 1, need, dp, pa, pl, P, t, ht, hn => by
    intro b h
    unfold pNd at h
    split at h
    · rename_i hnm
      have up := ht.up (nm_ne hnm)
      split at h
      · cases h
      · split at h
        · cases h
        · split at h
          · cases h
          · by_cases h3 : (nxt tp n t).kd = 3
            · rw [if_pos h3, if_pos h3] at h
              have a1 := pKs_g (oth := oth) (fun need dp pa pl P t ht hn => pNd_g f need dp pa pl P t ht hn) _ 0 _ _ b ht.nx.nx hn.nx.nx h
              have := ht.nx.le
              exact ⟨by omega, a1.2⟩
            · rw [if_neg h3, if_neg h3] at h
              have a1 := pKs_g (oth := oth) (fun need dp pa pl P t ht hn => pNd_g f need dp pa pl P t ht hn) _ 0 _ _ b ht.nx hn.nx h
              exact ⟨by omega, a1.2⟩
    · cases h

def TA.upd (D : TA) (k r cl cd cm va : Nat) : TA := (D.t, D.rl, D.rd, D.rm, updN D.r k r, updN D.cl k cl, updN D.cd k cd, updN D.cm k cm, updN D.va k va)
/-- below m alike. -/
def TaE (D D' : TA) (m : Nat) : Prop := ∀ k, k < m → D'.r k = D.r k ∧ D'.cl k = D.cl k ∧ D'.cd k = D.cd k ∧ D'.cm k = D.cm k ∧ D'.va k = D.va k
theorem TaE.refl (D : TA) (m : Nat) : TaE D D m := fun _ _ => ⟨rfl, rfl, rfl, rfl, rfl⟩
theorem TaE.trans {D'' : TA} {m m' : Nat} (E : TaE D D' m) (E' : TaE D' D'' m') (h : m ≤ m') : TaE D D'' m := fun k hk => by
  obtain ⟨a1, a2, a3, a4, a5⟩ := E k hk
  obtain ⟨b1, b2, b3, b4, b5⟩ := E' k (by omega)
  exact ⟨b1.trans a1, b2.trans a2, b3.trans a3, b4.trans a4, b5.trans a5⟩
theorem TaE.upd {m k r cl cd cm va : Nat} (h : m ≤ k) : TaE D (D.upd k r cl cd cm va) m := fun j hj => ⟨updN_ne _ _ (by omega), updN_ne _ _ (by omega), updN_ne _ _ (by omega), updN_ne _ _ (by omega), updN_ne _ _ (by omega)⟩
/-- a node that is read, with m children. -/
def NdU (c : HC) (L : GA) (D : TA) (T : Tv) (k m : Nat) : Prop :=
  ((c.kd (D.r k)).1 = 15) ∧
  (D.r k < c.sz) ∧
  (c.fr 1500 (D.r k) = some (L.pa (T.pd k))) ∧
  (c.fi 1501 (D.r k) = T.nu k) ∧
  (c.fr 1506 (D.r k) = some (D.cl k)) ∧
  (Ls c (D.cl k) (D.cd k) (D.cm k) m (fun j => D.r (T.kd k (j + 1)))) ∧
  (1 ≤ D.cm k) ∧
  (c.fr 1507 (D.r k) = some (D.va k)) ∧
  (c.kd (D.va k) = (40, 8)) ∧
  (D.va k < c.sz) ∧
  (∀ j, j < 8 → c.ai (D.va k) j = 0)
theorem NdU.k {c : HC} {L : GA} {D : TA} {T : Tv} {k m : Nat} (h9 : NdU c L D T k m) : (c.kd (D.r k)).1 = 15 := h9.1
theorem NdU.l {c : HC} {L : GA} {D : TA} {T : Tv} {k m : Nat} (h9 : NdU c L D T k m) : D.r k < c.sz := h9.2.1
theorem NdU.p {c : HC} {L : GA} {D : TA} {T : Tv} {k m : Nat} (h9 : NdU c L D T k m) : c.fr 1500 (D.r k) = some (L.pa (T.pd k)) := h9.2.2.1
theorem NdU.nu {c : HC} {L : GA} {D : TA} {T : Tv} {k m : Nat} (h9 : NdU c L D T k m) : c.fi 1501 (D.r k) = T.nu k := h9.2.2.2.1
theorem NdU.ch {c : HC} {L : GA} {D : TA} {T : Tv} {k m : Nat} (h9 : NdU c L D T k m) : c.fr 1506 (D.r k) = some (D.cl k) := h9.2.2.2.2.1
theorem NdU.ls {c : HC} {L : GA} {D : TA} {T : Tv} {k m : Nat} (h9 : NdU c L D T k m) : Ls c (D.cl k) (D.cd k) (D.cm k) m (fun j => D.r (T.kd k (j + 1))) := h9.2.2.2.2.2.1
theorem NdU.m1 {c : HC} {L : GA} {D : TA} {T : Tv} {k m : Nat} (h9 : NdU c L D T k m) : 1 ≤ D.cm k := h9.2.2.2.2.2.2.1
theorem NdU.va {c : HC} {L : GA} {D : TA} {T : Tv} {k m : Nat} (h9 : NdU c L D T k m) : c.fr 1507 (D.r k) = some (D.va k) := h9.2.2.2.2.2.2.2.1
theorem NdU.vk {c : HC} {L : GA} {D : TA} {T : Tv} {k m : Nat} (h9 : NdU c L D T k m) : c.kd (D.va k) = (40, 8) := h9.2.2.2.2.2.2.2.2.1
theorem NdU.vl {c : HC} {L : GA} {D : TA} {T : Tv} {k m : Nat} (h9 : NdU c L D T k m) : D.va k < c.sz := h9.2.2.2.2.2.2.2.2.2.1
theorem NdU.vz {c : HC} {L : GA} {D : TA} {T : Tv} {k m : Nat} (h9 : NdU c L D T k m) : ∀ j, j < 8 → c.ai (D.va k) j = 0 := h9.2.2.2.2.2.2.2.2.2.2
theorem NdU.keep {W : Nat → Nat → Prop} {c c' : HC} {k m : Nat} (N : NdU c L D T k m) (F : Fr W c c') (hf : ∀ f, f = 1500 ∨ f = 1501 ∨ f = 1506 ∨ f = 1507 → ¬ W f (D.r k)) (h1 : ¬ W 2301 (D.cl k)) (h2 : ¬ W 2302 (D.cl k)) (h3 : ¬ W 0 (D.cd k)) (h4 : ¬ W 0 (D.va k)) : NdU c' L D T k m :=
  ⟨by rw [F.kd _ N.l]; exact N.k, Nat.lt_of_lt_of_le N.l F.sz, by rw [F.fr _ _ N.l (hf _ (by simp))]; exact N.p, by rw [F.fi _ _ N.l (hf _ (by simp))]; exact N.nu, by rw [F.fr _ _ N.l (hf _ (by simp))]; exact N.ch, N.ls.keep F h2 h1 h3, N.m1, by rw [F.fr _ _ N.l (hf _ (by simp))]; exact N.va, by rw [F.kd _ N.vl]; exact N.vk, Nat.lt_of_lt_of_le N.vl F.sz, by rw [F.ai _ N.vl h4]; exact N.vz⟩
theorem NdU.eqv {c : HC} {T' : Tv} {k m : Nat} (N : NdU c L D T k m) (e1 : D'.r k = D.r k) (e2 : D'.cl k = D.cl k) (e3 : D'.cd k = D.cd k) (e4 : D'.cm k = D.cm k) (e5 : D'.va k = D.va k) (f1 : T'.pd k = T.pd k) (f2 : T'.nu k = T.nu k) (f3 : ∀ j, j < m → D'.r (T'.kd k (j + 1)) = D.r (T.kd k (j + 1))) : NdU c L D' T' k m :=
  ⟨by rw [e1]; exact N.k, by rw [e1]; exact N.l, by rw [e1, f1]; exact N.p, by rw [e1, f2]; exact N.nu, by rw [e1, e2]; exact N.ch, by rw [e2, e3, e4]; exact N.ls.congr (fun j hj => f3 j hj), by rw [e4]; exact N.m1, by rw [e1, e5]; exact N.va, by rw [e5]; exact N.vk, by rw [e5]; exact N.vl, by rw [e5]; exact N.vz⟩
/-- nodes from a to b, all read; but for the first each with its parent. -/
def NdS (c : HC) (L : GA) (D : TA) (G : Gv) (T : Tv) (a b z : Nat) : Prop :=
  (∀ k, a ≤ k → k < b → NdU c L D T k (G.kn (T.pd k))) ∧
  (∀ k, a < k → k < b → c.fr 1504 (D.r k) = (T.pa k).map D.r ∧ c.fi 1505 (D.r k) = I (T.pl k)) ∧
  (a < b → c.fr 1504 (D.r a) = none) ∧
  (∀ k, a ≤ k → k < b → z ≤ D.r k ∧ z ≤ D.cl k ∧ z ≤ D.cd k ∧ z ≤ D.va k) ∧
  (∀ j k, a ≤ j → j < k → k < b → D.r j ≠ D.r k ∧ D.cl j ≠ D.cl k ∧ D.cd j ≠ D.cd k ∧ D.va j ≠ D.va k)
theorem NdS.nd {c : HC} {L : GA} {D : TA} {G : Gv} {T : Tv} {a b z : Nat} (h9 : NdS c L D G T a b z) : ∀ k, a ≤ k → k < b → NdU c L D T k (G.kn (T.pd k)) := h9.1
theorem NdS.lk {c : HC} {L : GA} {D : TA} {G : Gv} {T : Tv} {a b z : Nat} (h9 : NdS c L D G T a b z) : ∀ k, a < k → k < b → c.fr 1504 (D.r k) = (T.pa k).map D.r ∧ c.fi 1505 (D.r k) = I (T.pl k) := h9.2.1
theorem NdS.rt {c : HC} {L : GA} {D : TA} {G : Gv} {T : Tv} {a b z : Nat} (h9 : NdS c L D G T a b z) : a < b → c.fr 1504 (D.r a) = none := h9.2.2.1
theorem NdS.z {c : HC} {L : GA} {D : TA} {G : Gv} {T : Tv} {a b z : Nat} (h9 : NdS c L D G T a b z) : ∀ k, a ≤ k → k < b → z ≤ D.r k ∧ z ≤ D.cl k ∧ z ≤ D.cd k ∧ z ≤ D.va k := h9.2.2.2.1
theorem NdS.ij {c : HC} {L : GA} {D : TA} {G : Gv} {T : Tv} {a b z : Nat} (h9 : NdS c L D G T a b z) : ∀ j k, a ≤ j → j < k → k < b → D.r j ≠ D.r k ∧ D.cl j ≠ D.cl k ∧ D.cd j ≠ D.cd k ∧ D.va j ≠ D.va k := h9.2.2.2.2
/-- what is read of a grammar. -/
def GrC (c : HC) (L : GA) (A : PG) (g : Nat) : Prop :=
  (PnR c L A g) ∧
  (GS c L A.g) ∧
  (GD L A.g) ∧
  (A.g.WF)
theorem GrC.N {c : HC} {L : GA} {A : PG} {g : Nat} (h9 : GrC c L A g) : PnR c L A g := h9.1
theorem GrC.S {c : HC} {L : GA} {A : PG} {g : Nat} (h9 : GrC c L A g) : GS c L A.g := h9.2.1
theorem GrC.gd {c : HC} {L : GA} {A : PG} {g : Nat} (h9 : GrC c L A g) : GD L A.g := h9.2.2.1
theorem GrC.W {c : HC} {L : GA} {A : PG} {g : Nat} (h9 : GrC c L A g) : A.g.WF := h9.2.2.2
theorem GrC.keepR {W : Nat → Nat → Prop} {c c' : HC} (B : GrC c L A g) (F : Fr W c c') (hW : ∀ f a, a < c.sz → W f a → (300 ≤ f ∧ f < 400) ∨ f = 2202 ∨ f = 2203) : GrC c' L A g := by
  have F' : Fr (fun f a => W f a ∧ a < c.sz) c c' := F.mono (fun f a ha hh => ⟨hh, ha⟩)
  have nf : ∀ f a, f < 300 ∨ 400 ≤ f → f ≠ 2202 → f ≠ 2203 → ¬ (W f a ∧ a < c.sz) := fun f a h1 h2 h3 hh => by have := hW f a hh.2 hh.1; omega
  have nz : ∀ a, ¬ (W 0 a ∧ a < c.sz) := fun a => nf 0 a (by decide) (by decide) (by decide)
  refine ⟨B.N.keep F' (fun f a hh => nf f a (by omega) (by omega) (by omega)) (fun a _ => nz a), ⟨fun s hs => (B.S.sy s hs).keep F' (fun f hh => nf f _ (by omega) (by omega) (by omega)) (nf _ _ (by decide) (by decide) (by decide)), fun p hp => (B.S.pr p hp).keep F' (fun f hh => nf f _ (by omega) (by omega) (by omega)) (nf _ _ (by decide) (by decide) (by decide)) (nf _ _ (by decide) (by decide) (by decide)) (nz _) (nz _)⟩, B.gd, B.W⟩
/-- what reading of nodes writes. -/
def WN (lo q : Nat) : Nat → Nat → Prop := fun f a => lo ≤ a ∧ ((a = q ∧ (301 ≤ f ∧ f ≤ 308 ∧ f ≠ 303 ∧ f ≠ 304 ∨ f = 311)) ∨ f = 2202 ∨ f = 2203)
theorem WN.fl {f a : Nat} (hh : WN lo q f a) : (300 ≤ f ∧ f < 400) ∨ f = 2202 ∨ f = 2203 := by
  have := hh.2
  omega
theorem Fr.wn {c c' : HC} (F : Fr (WG lo q) c c') : Fr (WN lo q) c c' := F.mono (fun f a _ hh => ⟨hh.1, by have := hh.2; omega⟩)
theorem Fr.wn0 {c c' : HC} (F : Fr W0 c c') : Fr (WN lo q) c c' := F.mono (fun f a _ hh => hh.elim)
/-- a reader of nodes. -/
def NdC (c : HC) (lo q o jn tpa : Nat) (tp : Nat → Nat) (n : Nat) (L : GA) (A : PG) (g m : Nat) (t : Tk) : Prop :=
  (RdK c lo q o jn tpa tp n t) ∧
  (GrC c L A g) ∧
  (c.fr 103 o = some g) ∧
  (c.fi 311 q = I m)
theorem NdC.K {c : HC} {lo q o jn tpa : Nat} {tp : Nat → Nat} {n : Nat} {L : GA} {A : PG} {g m : Nat} {t : Tk} (h9 : NdC c lo q o jn tpa tp n L A g m t) : RdK c lo q o jn tpa tp n t := h9.1
theorem NdC.B {c : HC} {lo q o jn tpa : Nat} {tp : Nat → Nat} {n : Nat} {L : GA} {A : PG} {g m : Nat} {t : Tk} (h9 : NdC c lo q o jn tpa tp n L A g m t) : GrC c L A g := h9.2.1
theorem NdC.gg {c : HC} {lo q o jn tpa : Nat} {tp : Nat → Nat} {n : Nat} {L : GA} {A : PG} {g m : Nat} {t : Tk} (h9 : NdC c lo q o jn tpa tp n L A g m t) : c.fr 103 o = some g := h9.2.2.1
theorem NdC.f {c : HC} {lo q o jn tpa : Nat} {tp : Nat → Nat} {n : Nat} {L : GA} {A : PG} {g m : Nat} {t : Tk} (h9 : NdC c lo q o jn tpa tp n L A g m t) : c.fi 311 q = I m := h9.2.2.2
theorem NdC.go {c c' : HC} {m : Nat} {t' : Tk} (C : NdC c lo q o jn tpa tp n L A g m t) (F : Fr (WG lo q) c c') (K' : RdK c' lo q o jn tpa tp n t') : NdC c' lo q o jn tpa tp n L A g m t' :=
  ⟨K', C.B.keepR F (fun _ _ _ hh => hh.fl), by rw [F.fr 103 o C.K.R.B.l (fun hh => by have := hh.2; omega)]; exact C.gg, by rw [F.fi 311 q C.K.R.l (fun hh => by have := hh.2; omega)]; exact C.f⟩
theorem NdC.keep0 {c c' : HC} {m : Nat} (C : NdC c lo q o jn tpa tp n L A g m t) (F : Fr W0 c c') : NdC c' lo q o jn tpa tp n L A g m t :=
  ⟨C.K.keep0 F, C.B.keepR F (fun _ _ _ hh => hh.elim), by rw [F.fr 103 o C.K.R.B.l id]; exact C.gg, by rw [F.fi 311 q C.K.R.l id]; exact C.f⟩
theorem NdS.keep {W : Nat → Nat → Prop} {c c' : HC} {a b z : Nat} (S : NdS c L D G T a b z) (F : Fr W c c') (hf : ∀ f x, f = 1500 ∨ f = 1501 ∨ f = 1504 ∨ f = 1505 ∨ f = 1506 ∨ f = 1507 ∨ f = 2301 ∨ f = 2302 ∨ f = 0 → ¬ W f x) : NdS c' L D G T a b z :=
  ⟨fun k h1 h2 => (S.nd k h1 h2).keep F (fun f hh => hf f _ (by omega)) (hf _ _ (by simp)) (hf _ _ (by simp)) (hf _ _ (by simp)) (hf _ _ (by simp)),
   fun k h1 h2 => ⟨by rw [F.fr _ _ (S.nd k (by omega) h2).l (hf _ _ (by simp))]; exact (S.lk k h1 h2).1, by rw [F.fi _ _ (S.nd k (by omega) h2).l (hf _ _ (by simp))]; exact (S.lk k h1 h2).2⟩,
   fun h1 => by rw [F.fr _ _ (S.nd a (Nat.le_refl _) h1).l (hf _ _ (by simp))]; exact S.rt h1, S.z, S.ij⟩
theorem NdS.wn {c c' : HC} {a b z : Nat} (S : NdS c L D G T a b z) (F : Fr (WN lo q) c c') : NdS c' L D G T a b z := S.keep F (fun f x hh hw => by have := hw.fl; omega)
theorem NdS.w0 {c c' : HC} {a b z : Nat} (S : NdS c L D G T a b z) (F : Fr W0 c c') : NdS c' L D G T a b z := S.keep F (fun f x hh hw => hw)
theorem NdU.wn {c c' : HC} {k m : Nat} (N : NdU c L D T k m) (F : Fr (WN lo q) c c') : NdU c' L D T k m := N.keep F (fun f hh hw => by have := hw.fl; omega) (fun hw => by have := hw.fl; omega) (fun hw => by have := hw.fl; omega) (fun hw => by have := hw.fl; omega) (fun hw => by have := hw.fl; omega)

/-- a node's object is made. -/
theorem px_ndInit {a : Nat} {p0 : Option Nat} {p1 : Int32} (hk : (h.kd a).1 = 15) (ha : a < h.sz) (hc : 3 ≤ h.rc) (hs : 13 ≤ h.rs) {Q : AH → Prop}
    (hQ : ∀ h' cl cd va, Fr (fun f b => b = a ∧ 1500 ≤ f ∧ f ≤ 1507 ∧ f ≠ 1504 ∧ f ≠ 1505) h.c h'.c → h'.fr 1500 a = p0 → h'.fi 1501 a = p1 → h'.fr 1506 a = some cl → (∀ x, Ls h'.c cl cd 2 0 x) → AF h'.c a 1507 va 40 8 → (h.sz ≤ cl ∧ h.sz ≤ cd ∧ h.sz ≤ va) → Q h') : wp_X15_init a p0 p1 h Q := by
  unfold wp_X15_init
  refine ⟨⟨by omega, by omega⟩, ?_⟩
  intro h1 e1
  have z1 : h1.sz = h.sz + 1 := by rw [e1]; rfl
  have r1 : h1.rc = h.rc - 1 ∧ h1.rs = h.rs - 3 := by rw [e1]; exact ⟨rfl, rfl⟩
  have k1 : (h1.kd h.sz).1 = 23 := by rw [e1, new_kd, if_pos rfl]
  have y1 : h1.fi 2302 h.sz = 0 := by rw [e1, new_fi, if_pos rfl]
  refine ⟨1, 2, ⟨by omega, by omega⟩, ?_⟩
  refine pc_initL (h := h1.srm 1 2) (n := 2) k1 (by show h.sz < h1.sz; omega) y1 (by decide) (by decide) (Nat.le_refl _) (Nat.le_refl _) ?_
  intro h3 F3 L3 s3 _ _ h4 e4
  have c4 : h4.c = h3.c := by rw [e4]; rfl
  have F4 : Fr (fun f b => b = h.sz ∧ (f = 2300 ∨ f = 2301)) h1.c h4.c := by rw [c4]; exact F3
  have s4 : h4.sz = h1.sz + 1 := by rw [e4]; exact s3
  have r4 : h4.rc = h.rc - 2 ∧ h4.rs = h.rs - 5 := by
    rw [e4]
    show h1.rc - 1 = _ ∧ h1.rs - 2 = _
    omega
  have L4 : ∀ x, Ls h4.c h.sz h1.sz 2 0 x := fun x => by rw [c4]; exact L3 x
  have F04 : Fr W0 h.c h4.c := by
    have f1 : Fr W0 h.c h1.c := by rw [e1]; exact (Fr.refl _).new _ _ _
    exact f1.trans' F4 (fun g b hb hh => by have h9 : b < h.sz := hb; have := hh.1; omega)
  have kk : ∀ {W : Nat → Nat → Prop} {U : AH}, Fr W h.c U.c → (U.kd a).1 = 15 := @fun _ U F => by show (U.c.kd a).1 = _; rw [F.kd a ha]; exact hk
  refine ⟨nn_of rfl (kk F04), ?_⟩
  intro h9 e9
  obtain ⟨f9, L9, F9, s9⟩ := lst_new (x := fun _ => 0) ha e1 F4 s4 (L4 _) e9 (by decide)
  have r9 : h9.rc = h.rc - 2 ∧ h9.rs = h.rs - 5 := by rw [e9]; exact r4
  have n8 : ni 8 = 8 := rfl
  refine ⟨⟨by decide, by rw [n8]; decide, by rw [n8]; exact ⟨by omega, by omega⟩⟩, ?_⟩
  rw [n8]
  intro h10 e10
  have F10 : Fr (fun g b => g = 1506 ∧ b = a) h.c h10.c := by rw [e10]; exact F9.new _ _ _
  refine ⟨nn_of rfl (kk F10), ?_⟩
  intro h12 e12 h13 e13 h14 e14
  obtain ⟨A12, G12, s12, c12, q12⟩ := AF.mk1 (show a < h9.sz by omega) e10 e12
  have G14 : Fr (fun f b => b = a ∧ (f = 1500 ∨ f = 1501)) h12.c h14.c := by rw [e14, e13]; exact ((Fr.refl _).sfr _ (fun _ => ⟨rfl, .inl rfl⟩)).sfi _ (fun _ => ⟨rfl, .inr rfl⟩)
  have G9 : Fr (fun f b => b = a ∧ (f = 1500 ∨ f = 1501 ∨ f = 1507)) h9.c h14.c := (G12.mono (W' := fun f b => b = a ∧ (f = 1500 ∨ f = 1501 ∨ f = 1507)) (fun f b _ hh => by omega)).trans' G14 (fun f b _ hh => by omega)
  have T14 : Fr (fun f b => b = a ∧ 1500 ≤ f ∧ f ≤ 1507 ∧ f ≠ 1504 ∧ f ≠ 1505) h.c h14.c := (F9.mono (fun f b _ hh => by omega)).trans' G9 (fun f b _ hh => by omega)
  refine hQ h14 h.sz (h.sz + 1) h9.sz T14 ?_ ?_ ?_ (fun x => ?_) (A12.keep (by show a < h12.sz; omega) G14 (by omega) (by omega)) ⟨Nat.le_refl _, by omega, by omega⟩
  · rw [e14, sfi_fr, e13, sfr_same]
  · rw [e14, sfi_same]
  · show h14.c.fr 1506 a = _
    rw [G9.fr 1506 a (by show a < h9.sz; omega) (by omega)]; exact f9
  · have L9' : Ls h9.c h.sz (h.sz + 1) 2 0 x := L9.congr (fun i hi => absurd hi (Nat.not_lt_zero _))
    exact L9'.keep G9 (by omega) (by omega) (by omega)
end
