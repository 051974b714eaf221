/-! plain: kf -/
set_option maxRecDepth 100000
section
variable {h : AH} {lo q o jn tpa : Nat} {tp : Nat → Nat} {n : Nat} {t : Tk} {L L' : GA} {A A' : PG} {ow ow' : Nat → Nat} {z0 g : Nat}

/-- marks of what a grammar has. -/
def tg (i k : Nat) : Nat := 32 * k + i + 1
theorem tg_ne {i k j m : Nat} (hi : i < 32) (hj : j < 32) (h : i ≠ j ∨ k ≠ m) : tg i k ≠ tg j m := by unfold tg; omega
theorem ow_ne {a b x y : Nat} (h1 : ow a = x) (h2 : ow b = y) (h : x ≠ y) : a ≠ b := fun e => h (by rw [← h1, ← h2, e])
def SyN (c : HC) (L : GA) (A : PG) (ow : Nat → Nat) (s : Nat) : Prop :=
  (SyR c L A.g s) ∧
  (∃ a v, c.fr 600 (L.sa s) = some a ∧ StR c a v (A.sn s)) ∧
  (∃ x, Ls c (L.nl s) (L.nd s) (L.nm s) (A.g.cnt s) x ∧ NmL c (A.g.cnt s) x (A.an s)) ∧
  (∀ a, a < 8 → c.ai (L.si s) a = 0) ∧
  (ow (L.sa s) = tg 0 s) ∧
  (ow (L.nl s) = tg 1 s) ∧
  (ow (L.nd s) = tg 2 s) ∧
  (ow (L.si s) = tg 3 s) ∧
  (ow (L.sv s) = tg 4 s)
theorem SyN.R {c : HC} {L : GA} {A : PG} {ow : Nat → Nat} {s : Nat} (h9 : SyN c L A ow s) : SyR c L A.g s := h9.1
theorem SyN.n1 {c : HC} {L : GA} {A : PG} {ow : Nat → Nat} {s : Nat} (h9 : SyN c L A ow s) : ∃ a v, c.fr 600 (L.sa s) = some a ∧ StR c a v (A.sn s) := h9.2.1
theorem SyN.n2 {c : HC} {L : GA} {A : PG} {ow : Nat → Nat} {s : Nat} (h9 : SyN c L A ow s) : ∃ x, Ls c (L.nl s) (L.nd s) (L.nm s) (A.g.cnt s) x ∧ NmL c (A.g.cnt s) x (A.an s) := h9.2.2.1
theorem SyN.z {c : HC} {L : GA} {A : PG} {ow : Nat → Nat} {s : Nat} (h9 : SyN c L A ow s) : ∀ a, a < 8 → c.ai (L.si s) a = 0 := h9.2.2.2.1
theorem SyN.o1 {c : HC} {L : GA} {A : PG} {ow : Nat → Nat} {s : Nat} (h9 : SyN c L A ow s) : ow (L.sa s) = tg 0 s := h9.2.2.2.2.1
theorem SyN.o2 {c : HC} {L : GA} {A : PG} {ow : Nat → Nat} {s : Nat} (h9 : SyN c L A ow s) : ow (L.nl s) = tg 1 s := h9.2.2.2.2.2.1
theorem SyN.o3 {c : HC} {L : GA} {A : PG} {ow : Nat → Nat} {s : Nat} (h9 : SyN c L A ow s) : ow (L.nd s) = tg 2 s := h9.2.2.2.2.2.2.1
theorem SyN.o4 {c : HC} {L : GA} {A : PG} {ow : Nat → Nat} {s : Nat} (h9 : SyN c L A ow s) : ow (L.si s) = tg 3 s := h9.2.2.2.2.2.2.2.1
theorem SyN.o5 {c : HC} {L : GA} {A : PG} {ow : Nat → Nat} {s : Nat} (h9 : SyN c L A ow s) : ow (L.sv s) = tg 4 s := h9.2.2.2.2.2.2.2.2
def PrN (c : HC) (L : GA) (A : PG) (ow : Nat → Nat) (p : Nat) : Prop :=
  (PrR c L A.g p) ∧
  (∃ a v, c.fr 700 (L.pa p) = some a ∧ StR c a v (A.pn p)) ∧
  (c.fr 705 (L.pa p) = some (L.pp p)) ∧
  (c.kd (L.pp p) = (40, 104)) ∧
  (L.pp p < c.sz) ∧
  (c.fr 702 (L.pa p) = some (L.pr p)) ∧
  (c.kd (L.pr p) = (46, 32)) ∧
  (L.pr p < c.sz) ∧
  (∀ u, u < 32 → A.g.rl p u = none → c.ar (L.pr p) u = none) ∧
  (∀ u e, u < 32 → A.g.rl p u = some e → ∃ a, c.ar (L.pr p) u = some a ∧ PtR c 64 a e) ∧
  (c.fr 704 (L.pa p) = some (L.po p)) ∧
  (c.kd (L.po p) = (42, 32)) ∧
  (L.po p < c.sz) ∧
  (∀ u, u < 32 → c.ai (L.po p) u = if (match A.g.rl p u with | some e => Ex.isOwn e | none => false) then 1 else 0) ∧
  (ow (L.pa p) = tg 5 p) ∧
  (ow (L.ql p) = tg 6 p) ∧
  (ow (L.qd p) = tg 7 p) ∧
  (ow (L.pr p) = tg 8 p) ∧
  (ow (L.pk p) = tg 9 p) ∧
  (ow (L.po p) = tg 10 p) ∧
  (ow (L.pp p) = tg 11 p)
theorem PrN.R {c : HC} {L : GA} {A : PG} {ow : Nat → Nat} {p : Nat} (h9 : PrN c L A ow p) : PrR c L A.g p := h9.1
theorem PrN.n1 {c : HC} {L : GA} {A : PG} {ow : Nat → Nat} {p : Nat} (h9 : PrN c L A ow p) : ∃ a v, c.fr 700 (L.pa p) = some a ∧ StR c a v (A.pn p) := h9.2.1
theorem PrN.q1 {c : HC} {L : GA} {A : PG} {ow : Nat → Nat} {p : Nat} (h9 : PrN c L A ow p) : c.fr 705 (L.pa p) = some (L.pp p) := h9.2.2.1
theorem PrN.q2 {c : HC} {L : GA} {A : PG} {ow : Nat → Nat} {p : Nat} (h9 : PrN c L A ow p) : c.kd (L.pp p) = (40, 104) := h9.2.2.2.1
theorem PrN.q3 {c : HC} {L : GA} {A : PG} {ow : Nat → Nat} {p : Nat} (h9 : PrN c L A ow p) : L.pp p < c.sz := h9.2.2.2.2.1
theorem PrN.u1 {c : HC} {L : GA} {A : PG} {ow : Nat → Nat} {p : Nat} (h9 : PrN c L A ow p) : c.fr 702 (L.pa p) = some (L.pr p) := h9.2.2.2.2.2.1
theorem PrN.u2 {c : HC} {L : GA} {A : PG} {ow : Nat → Nat} {p : Nat} (h9 : PrN c L A ow p) : c.kd (L.pr p) = (46, 32) := h9.2.2.2.2.2.2.1
theorem PrN.u3 {c : HC} {L : GA} {A : PG} {ow : Nat → Nat} {p : Nat} (h9 : PrN c L A ow p) : L.pr p < c.sz := h9.2.2.2.2.2.2.2.1
theorem PrN.u4 {c : HC} {L : GA} {A : PG} {ow : Nat → Nat} {p : Nat} (h9 : PrN c L A ow p) : ∀ u, u < 32 → A.g.rl p u = none → c.ar (L.pr p) u = none := h9.2.2.2.2.2.2.2.2.1
theorem PrN.u5 {c : HC} {L : GA} {A : PG} {ow : Nat → Nat} {p : Nat} (h9 : PrN c L A ow p) : ∀ u e, u < 32 → A.g.rl p u = some e → ∃ a, c.ar (L.pr p) u = some a ∧ PtR c 64 a e := h9.2.2.2.2.2.2.2.2.2.1
theorem PrN.w1 {c : HC} {L : GA} {A : PG} {ow : Nat → Nat} {p : Nat} (h9 : PrN c L A ow p) : c.fr 704 (L.pa p) = some (L.po p) := h9.2.2.2.2.2.2.2.2.2.2.1
theorem PrN.w2 {c : HC} {L : GA} {A : PG} {ow : Nat → Nat} {p : Nat} (h9 : PrN c L A ow p) : c.kd (L.po p) = (42, 32) := h9.2.2.2.2.2.2.2.2.2.2.2.1
theorem PrN.w3 {c : HC} {L : GA} {A : PG} {ow : Nat → Nat} {p : Nat} (h9 : PrN c L A ow p) : L.po p < c.sz := h9.2.2.2.2.2.2.2.2.2.2.2.2.1
theorem PrN.w4 {c : HC} {L : GA} {A : PG} {ow : Nat → Nat} {p : Nat} (h9 : PrN c L A ow p) : ∀ u, u < 32 → c.ai (L.po p) u = if (match A.g.rl p u with | some e => Ex.isOwn e | none => false) then 1 else 0 := h9.2.2.2.2.2.2.2.2.2.2.2.2.2.1
theorem PrN.o1 {c : HC} {L : GA} {A : PG} {ow : Nat → Nat} {p : Nat} (h9 : PrN c L A ow p) : ow (L.pa p) = tg 5 p := h9.2.2.2.2.2.2.2.2.2.2.2.2.2.2.1
theorem PrN.o2 {c : HC} {L : GA} {A : PG} {ow : Nat → Nat} {p : Nat} (h9 : PrN c L A ow p) : ow (L.ql p) = tg 6 p := h9.2.2.2.2.2.2.2.2.2.2.2.2.2.2.2.1
theorem PrN.o3 {c : HC} {L : GA} {A : PG} {ow : Nat → Nat} {p : Nat} (h9 : PrN c L A ow p) : ow (L.qd p) = tg 7 p := h9.2.2.2.2.2.2.2.2.2.2.2.2.2.2.2.2.1
theorem PrN.o4 {c : HC} {L : GA} {A : PG} {ow : Nat → Nat} {p : Nat} (h9 : PrN c L A ow p) : ow (L.pr p) = tg 8 p := h9.2.2.2.2.2.2.2.2.2.2.2.2.2.2.2.2.2.1
theorem PrN.o5 {c : HC} {L : GA} {A : PG} {ow : Nat → Nat} {p : Nat} (h9 : PrN c L A ow p) : ow (L.pk p) = tg 9 p := h9.2.2.2.2.2.2.2.2.2.2.2.2.2.2.2.2.2.2.1
theorem PrN.o6 {c : HC} {L : GA} {A : PG} {ow : Nat → Nat} {p : Nat} (h9 : PrN c L A ow p) : ow (L.po p) = tg 10 p := h9.2.2.2.2.2.2.2.2.2.2.2.2.2.2.2.2.2.2.2.1
theorem PrN.o7 {c : HC} {L : GA} {A : PG} {ow : Nat → Nat} {p : Nat} (h9 : PrN c L A ow p) : ow (L.pp p) = tg 11 p := h9.2.2.2.2.2.2.2.2.2.2.2.2.2.2.2.2.2.2.2.2
/-- a grammar that is being read. -/
def GB (c : HC) (L : GA) (A : PG) (ow : Nat → Nat) (z0 g : Nat) : Prop :=
  ((c.kd g).1 = 4) ∧
  (g < c.sz) ∧
  (c.fr 400 g = some L.sl) ∧
  (Ls c L.sl L.sd L.sm A.g.nS L.sa) ∧
  (1 ≤ L.sm) ∧
  (c.fr 401 g = some L.pl) ∧
  (Ls c L.pl L.pd L.pm A.g.nP L.pa) ∧
  (1 ≤ L.pm) ∧
  (c.fi 402 g = -1) ∧
  (c.fi 403 g = -1) ∧
  (∀ s, s < A.g.nS → SyN c L A ow s) ∧
  (∀ p, p < A.g.nP → PrN c L A ow p) ∧
  (ow L.sl = tg 12 0) ∧
  (ow L.sd = tg 13 0) ∧
  (ow L.pl = tg 14 0) ∧
  (ow L.pd = tg 15 0) ∧
  (∀ a, ow a ≠ 0 → z0 ≤ a) ∧
  (A.g.WF) ∧
  (A.g.RL)
theorem GB.k {c : HC} {L : GA} {A : PG} {ow : Nat → Nat} {z0 g : Nat} (h9 : GB c L A ow z0 g) : (c.kd g).1 = 4 := h9.1
theorem GB.l {c : HC} {L : GA} {A : PG} {ow : Nat → Nat} {z0 g : Nat} (h9 : GB c L A ow z0 g) : g < c.sz := h9.2.1
theorem GB.s1 {c : HC} {L : GA} {A : PG} {ow : Nat → Nat} {z0 g : Nat} (h9 : GB c L A ow z0 g) : c.fr 400 g = some L.sl := h9.2.2.1
theorem GB.s2 {c : HC} {L : GA} {A : PG} {ow : Nat → Nat} {z0 g : Nat} (h9 : GB c L A ow z0 g) : Ls c L.sl L.sd L.sm A.g.nS L.sa := h9.2.2.2.1
theorem GB.s3 {c : HC} {L : GA} {A : PG} {ow : Nat → Nat} {z0 g : Nat} (h9 : GB c L A ow z0 g) : 1 ≤ L.sm := h9.2.2.2.2.1
theorem GB.p1 {c : HC} {L : GA} {A : PG} {ow : Nat → Nat} {z0 g : Nat} (h9 : GB c L A ow z0 g) : c.fr 401 g = some L.pl := h9.2.2.2.2.2.1
theorem GB.p2 {c : HC} {L : GA} {A : PG} {ow : Nat → Nat} {z0 g : Nat} (h9 : GB c L A ow z0 g) : Ls c L.pl L.pd L.pm A.g.nP L.pa := h9.2.2.2.2.2.2.1
theorem GB.p3 {c : HC} {L : GA} {A : PG} {ow : Nat → Nat} {z0 g : Nat} (h9 : GB c L A ow z0 g) : 1 ≤ L.pm := h9.2.2.2.2.2.2.2.1
theorem GB.b1 {c : HC} {L : GA} {A : PG} {ow : Nat → Nat} {z0 g : Nat} (h9 : GB c L A ow z0 g) : c.fi 402 g = -1 := h9.2.2.2.2.2.2.2.2.1
theorem GB.b2 {c : HC} {L : GA} {A : PG} {ow : Nat → Nat} {z0 g : Nat} (h9 : GB c L A ow z0 g) : c.fi 403 g = -1 := h9.2.2.2.2.2.2.2.2.2.1
theorem GB.sy {c : HC} {L : GA} {A : PG} {ow : Nat → Nat} {z0 g : Nat} (h9 : GB c L A ow z0 g) : ∀ s, s < A.g.nS → SyN c L A ow s := h9.2.2.2.2.2.2.2.2.2.2.1
theorem GB.pr {c : HC} {L : GA} {A : PG} {ow : Nat → Nat} {z0 g : Nat} (h9 : GB c L A ow z0 g) : ∀ p, p < A.g.nP → PrN c L A ow p := h9.2.2.2.2.2.2.2.2.2.2.2.1
theorem GB.o1 {c : HC} {L : GA} {A : PG} {ow : Nat → Nat} {z0 g : Nat} (h9 : GB c L A ow z0 g) : ow L.sl = tg 12 0 := h9.2.2.2.2.2.2.2.2.2.2.2.2.1
theorem GB.o2 {c : HC} {L : GA} {A : PG} {ow : Nat → Nat} {z0 g : Nat} (h9 : GB c L A ow z0 g) : ow L.sd = tg 13 0 := h9.2.2.2.2.2.2.2.2.2.2.2.2.2.1
theorem GB.o3 {c : HC} {L : GA} {A : PG} {ow : Nat → Nat} {z0 g : Nat} (h9 : GB c L A ow z0 g) : ow L.pl = tg 14 0 := h9.2.2.2.2.2.2.2.2.2.2.2.2.2.2.1
theorem GB.o4 {c : HC} {L : GA} {A : PG} {ow : Nat → Nat} {z0 g : Nat} (h9 : GB c L A ow z0 g) : ow L.pd = tg 15 0 := h9.2.2.2.2.2.2.2.2.2.2.2.2.2.2.2.1
theorem GB.z {c : HC} {L : GA} {A : PG} {ow : Nat → Nat} {z0 g : Nat} (h9 : GB c L A ow z0 g) : ∀ a, ow a ≠ 0 → z0 ≤ a := h9.2.2.2.2.2.2.2.2.2.2.2.2.2.2.2.2.1
theorem GB.W {c : HC} {L : GA} {A : PG} {ow : Nat → Nat} {z0 g : Nat} (h9 : GB c L A ow z0 g) : A.g.WF := h9.2.2.2.2.2.2.2.2.2.2.2.2.2.2.2.2.2.1
theorem GB.Y {c : HC} {L : GA} {A : PG} {ow : Nat → Nat} {z0 g : Nat} (h9 : GB c L A ow z0 g) : A.g.RL := h9.2.2.2.2.2.2.2.2.2.2.2.2.2.2.2.2.2.2
theorem NmL.keep {W : Nat → Nat → Prop} {c c' : HC} {m : Nat} {x : Nat → Nat} {f : Nat → List Nat} (N : NmL c m x f) (F : Fr W c c') (h1 : ∀ a, ¬ W 2200 a ∧ ¬ W 2201 a) (h2 : ∀ v, (c.kd v).1 = 41 → ¬ W 0 v) : NmL c' m x f := by
  intro i hi
  obtain ⟨v, S⟩ := N i hi
  exact ⟨v, S.keep F (h1 _).1 (h1 _).2 (h2 v (by rw [S.vk]))⟩
theorem SyN.keep {W : Nat → Nat → Prop} {c c' : HC} {s : Nat} (S : SyN c L A ow s) (F : Fr W c c') (hf : ∀ f a, f = 600 ∨ f = 601 ∨ f = 602 ∨ f = 603 ∨ f = 604 ∨ f = 2200 ∨ f = 2201 → ¬ W f a) (h2 : ¬ W 2302 (L.nl s)) (h3 : ¬ W 2301 (L.nl s)) (h4 : ¬ W 0 (L.nd s)) (h5 : ¬ W 0 (L.si s)) (h6 : ∀ v, (c.kd v).1 = 41 → ¬ W 0 v) : SyN c' L A ow s := by
  refine ⟨S.R.keep F (fun f hh => hf f _ (by rcases hh with e | e | e | e <;> simp [e])) h2, ?_, ?_, fun a ha => by rw [F.ai _ S.R.i3 h5]; exact S.z a ha, S.o1, S.o2, S.o3, S.o4, S.o5⟩
  · obtain ⟨a, v, e1, e2⟩ := S.n1
    exact ⟨a, v, by rw [F.fr _ _ S.R.l (hf _ _ (by simp))]; exact e1, e2.keep F (hf _ _ (by simp)) (hf _ _ (by simp)) (h6 v (by rw [e2.vk]))⟩
  · obtain ⟨x, e1, e2⟩ := S.n2
    exact ⟨x, e1.keep F h2 h3 h4, e2.keep F (fun a => ⟨hf _ _ (by simp), hf _ _ (by simp)⟩) h6⟩
theorem PrN.keep {W : Nat → Nat → Prop} {c c' : HC} {p : Nat} (S : PrN c L A ow p) (F : Fr W c c') (hf : ∀ f a, (700 ≤ f ∧ f ≤ 705) ∨ f = 2200 ∨ f = 2201 ∨ f = 1000 ∨ f = 1100 ∨ f = 1200 ∨ f = 1201 ∨ f = 1202 ∨ f = 800 ∨ f = 801 ∨ f = 802 → ¬ W f a)
    (h2 : ¬ W 2302 (L.ql p)) (h3 : ¬ W 2301 (L.ql p)) (h4 : ¬ W 0 (L.qd p)) (h5 : ¬ W 0 (L.pk p)) (h6 : ¬ W 0 (L.pr p)) (h7 : ¬ W 0 (L.po p)) (h8 : ∀ v, (c.kd v).1 = 41 → ¬ W 0 v) : PrN c' L A ow p := by
  have hp := S.R.l
  refine ⟨S.R.keep F (fun f hh => hf f _ (by rcases hh with e | e <;> omega)) h2 h3 h4 h5, ?_, by rw [F.fr _ _ hp (hf _ _ (by omega))]; exact S.q1, by rw [F.kd _ S.q3]; exact S.q2, Nat.lt_of_lt_of_le S.q3 F.sz,
    by rw [F.fr _ _ hp (hf _ _ (by omega))]; exact S.u1, by rw [F.kd _ S.u3]; exact S.u2, Nat.lt_of_lt_of_le S.u3 F.sz, fun u hu he => by rw [F.ar _ S.u3 h6]; exact S.u4 u hu he, fun u e hu he => ?_,
    by rw [F.fr _ _ hp (hf _ _ (by omega))]; exact S.w1, by rw [F.kd _ S.w3]; exact S.w2, Nat.lt_of_lt_of_le S.w3 F.sz, fun u hu => by rw [F.ai _ S.w3 h7]; exact S.w4 u hu, S.o1, S.o2, S.o3, S.o4, S.o5, S.o6, S.o7⟩
  · obtain ⟨a, v, e1, e2⟩ := S.n1
    exact ⟨a, v, by rw [F.fr _ _ hp (hf _ _ (by omega))]; exact e1, e2.keep F (hf _ _ (by omega)) (hf _ _ (by omega)) (h8 v (by rw [e2.vk]))⟩
  · obtain ⟨a, e1, e2⟩ := S.u5 u e hu he
    exact ⟨a, by rw [F.ar _ S.u3 h6]; exact e1, e2.keep F (fun f b hh => hf f b (by omega))⟩
theorem GB.keepR {W : Nat → Nat → Prop} {c c' : HC} (B : GB c L A ow z0 g) (F : Fr W c c') (hW : ∀ f a, W f a → (300 ≤ f ∧ f < 400) ∨ f = 2202 ∨ f = 2203) : GB c' L A ow z0 g := by
  have nf : ∀ f a, f < 300 ∨ 400 ≤ f → f ≠ 2202 → f ≠ 2203 → ¬ W f a := fun f a h1 h2 h3 hh => by have := hW f a hh; omega
  have nz : ∀ a, ¬ W 0 a := fun a => nf 0 a (by decide) (by decide) (by decide)
  refine ⟨by rw [F.kd _ B.l]; exact B.k, Nat.lt_of_lt_of_le B.l F.sz, by rw [F.fr _ _ B.l (nf _ _ (by decide) (by decide) (by decide))]; exact B.s1, B.s2.keep F (nf _ _ (by decide) (by decide) (by decide)) (nf _ _ (by decide) (by decide) (by decide)) (nz _), B.s3,
    by rw [F.fr _ _ B.l (nf _ _ (by decide) (by decide) (by decide))]; exact B.p1, B.p2.keep F (nf _ _ (by decide) (by decide) (by decide)) (nf _ _ (by decide) (by decide) (by decide)) (nz _), B.p3, by rw [F.fi _ _ B.l (nf _ _ (by decide) (by decide) (by decide))]; exact B.b1, by rw [F.fi _ _ B.l (nf _ _ (by decide) (by decide) (by decide))]; exact B.b2,
    fun s hs => (B.sy s hs).keep F (fun f a hh => nf f a (by omega) (by omega) (by omega)) (nf _ _ (by decide) (by decide) (by decide)) (nf _ _ (by decide) (by decide) (by decide)) (nz _) (nz _) (fun _ _ => nz _),
    fun p hp => (B.pr p hp).keep F (fun f a hh => nf f a (by omega) (by omega) (by omega)) (nf _ _ (by decide) (by decide) (by decide)) (nf _ _ (by decide) (by decide) (by decide)) (nz _) (nz _) (nz _) (nz _) (fun _ _ => nz _), B.o1, B.o2, B.o3, B.o4, B.z, B.W, B.Y⟩
theorem WG.fl {f a : Nat} (hh : WG lo q f a) : (300 ≤ f ∧ f < 400) ∨ f = 2202 ∨ f = 2203 := by
  have := hh.2
  omega
theorem GB.go {c c' : HC} (B : GB c L A ow z0 g) (F : Fr (WG lo q) c c') : GB c' L A ow z0 g := B.keepR F (fun _ _ hh => hh.fl)
theorem GB.go0 {c c' : HC} (B : GB c L A ow z0 g) (F : Fr W0 c c') : GB c' L A ow z0 g := B.keepR F (fun _ _ hh => hh.elim)

/-- which symbol has this name. -/
theorem px_symbolNamed (B : GB h.c L A ow z0 g) {wa wv : Nat} {w : List Nat} (S : StR h.c wa wv w) {Q : Int32 → AH → Prop} (hQ : Q (oI (fdN A.sn A.g.nS w)) h) : wp_X3_symbolNamed g (some wa) h Q := by
  have h8 := B.W.nS
  have s1 : h.fr 400 g = some L.sl := B.s1
  unfold wp_X3_symbolNamed
  refine xlp_cnt A.g.nS (fun i s U => s = I i ∧ U = h ∧ ∀ j, j < i → A.sn j ≠ w) ⟨rfl, rfl, fun j hj => absurd hj (Nat.not_lt_zero _)⟩ ?_
  intro i s U K hi hh hK
  obtain ⟨e1, e2, hno⟩ := hh
  rw [e1, e2]
  refine ⟨nn_of rfl B.k, ?_⟩
  rw [s1]
  refine ⟨nn_of rfl B.s2.k, ?_⟩
  rw [adr_some]
  refine pc_size (h := h.srm 0 0) B.s2 (pu ?_)
  by_cases ei : i = A.g.nS
  · subst ei
    refine brT ((I_le (by omega) (by omega)).2 (Nat.le_refl _)) ?_
    rw [fdN_none.2 hno] at hQ
    exact hQ
  have hik : i < A.g.nS := by omega
  refine brF (fun hh => by have := (I_le (by omega) (by omega)).1 hh; omega) ⟨nn_of rfl B.k, ?_⟩
  rw [s1]
  refine ⟨nn_of rfl B.s2.k, ?_⟩
  rw [adr_some]
  refine pc_get (h := h.srm 0 0) B.s2 hik (pu ?_)
  have Y := B.sy i hik
  obtain ⟨a, v, n1, n2⟩ := Y.n1
  refine ⟨.inr (nn_of rfl Y.R.k), nn_of rfl Y.R.k, ?_⟩
  rw [adr_some, show h.fr 600 (L.sa i) = some a from n1]
  refine ⟨nn_of rfl n2.k, ?_⟩
  rw [adr_some]
  refine pc_equals (h := h.srm 0 0) n2 S (pu ?_)
  by_cases hw : A.sn i = w
  · rw [if_pos hw]
    refine brF (by decide) ?_
    rw [fdN_some.2 ⟨hik, hw, hno⟩] at hQ
    exact hQ
  · rw [if_neg hw]
    refine brT rfl ?_
    rw [show I i + 1 = I (i + 1) from I_add _ 1]
    refine hK _ _ hik ⟨rfl, rfl, fun j hj e => ?_⟩
    by_cases ej : j = i
    · rw [ej] at e; exact hw e
    · exact hno j (by omega) e

/-- productions with their names. -/
def PnR (c : HC) (L : GA) (A : PG) (g : Nat) : Prop :=
  ((c.kd g).1 = 4) ∧
  (g < c.sz) ∧
  (c.fr 401 g = some L.pl) ∧
  (Ls c L.pl L.pd L.pm A.g.nP L.pa) ∧
  (A.g.nP ≤ 12) ∧
  (∀ p, p < A.g.nP → (c.kd (L.pa p)).1 = 7 ∧ L.pa p < c.sz) ∧
  (∀ p, p < A.g.nP → ∃ a v, c.fr 700 (L.pa p) = some a ∧ StR c a v (A.pn p))
theorem PnR.k {c : HC} {L : GA} {A : PG} {g : Nat} (h9 : PnR c L A g) : (c.kd g).1 = 4 := h9.1
theorem PnR.l {c : HC} {L : GA} {A : PG} {g : Nat} (h9 : PnR c L A g) : g < c.sz := h9.2.1
theorem PnR.p1 {c : HC} {L : GA} {A : PG} {g : Nat} (h9 : PnR c L A g) : c.fr 401 g = some L.pl := h9.2.2.1
theorem PnR.p2 {c : HC} {L : GA} {A : PG} {g : Nat} (h9 : PnR c L A g) : Ls c L.pl L.pd L.pm A.g.nP L.pa := h9.2.2.2.1
theorem PnR.nb {c : HC} {L : GA} {A : PG} {g : Nat} (h9 : PnR c L A g) : A.g.nP ≤ 12 := h9.2.2.2.2.1
theorem PnR.pk {c : HC} {L : GA} {A : PG} {g : Nat} (h9 : PnR c L A g) : ∀ p, p < A.g.nP → (c.kd (L.pa p)).1 = 7 ∧ L.pa p < c.sz := h9.2.2.2.2.2.1
theorem PnR.n1 {c : HC} {L : GA} {A : PG} {g : Nat} (h9 : PnR c L A g) : ∀ p, p < A.g.nP → ∃ a v, c.fr 700 (L.pa p) = some a ∧ StR c a v (A.pn p) := h9.2.2.2.2.2.2
theorem GB.pn {c : HC} (B : GB c L A ow z0 g) : PnR c L A g := ⟨B.k, B.l, B.p1, B.p2, B.W.nP, fun p hp => ⟨(B.pr p hp).R.k, (B.pr p hp).R.l⟩, fun p hp => (B.pr p hp).n1⟩
theorem px_named (B : PnR h.c L A g) {wa wv : Nat} {w : List Nat} (S : StR h.c wa wv w) {Q : Option Nat → AH → Prop} (hQ : Q ((fdN A.pn A.g.nP w).map L.pa) h) : wp_X3_named g (some wa) h Q := by
  have h8 := B.nb
  have s1 : h.fr 401 g = some L.pl := B.p1
  unfold wp_X3_named
  refine xlp_cnt A.g.nP (fun i s U => s = I i ∧ U = h ∧ ∀ j, j < i → A.pn j ≠ w) ⟨rfl, rfl, fun j hj => absurd hj (Nat.not_lt_zero _)⟩ ?_
  intro i s U K hi hh hK
  obtain ⟨e1, e2, hno⟩ := hh
  rw [e1, e2]
  refine ⟨nn_of rfl B.k, ?_⟩
  rw [s1]
  refine ⟨nn_of rfl B.p2.k, ?_⟩
  rw [adr_some]
  refine pc_size (h := h.srm 0 0) B.p2 (pu ?_)
  by_cases ei : i = A.g.nP
  · subst ei
    refine brT ((I_le (by omega) (by omega)).2 (Nat.le_refl _)) ?_
    rw [fdN_none.2 hno] at hQ
    exact hQ
  have hik : i < A.g.nP := by omega
  refine brF (fun hh => by have := (I_le (by omega) (by omega)).1 hh; omega) ⟨nn_of rfl B.k, ?_⟩
  rw [s1]
  refine ⟨nn_of rfl B.p2.k, ?_⟩
  rw [adr_some]
  refine pc_get (h := h.srm 0 0) B.p2 hik (pu ?_)
  have Y := B.pk i hik
  obtain ⟨a, v, n1, n2⟩ := B.n1 i hik
  refine ⟨.inr (nn_of rfl Y.1), nn_of rfl Y.1, ?_⟩
  rw [adr_some, show h.fr 700 (L.pa i) = some a from n1]
  refine ⟨nn_of rfl n2.k, ?_⟩
  rw [adr_some]
  refine pc_equals (h := h.srm 0 0) n2 S (pu ?_)
  by_cases hw : A.pn i = w
  · rw [if_pos hw]
    refine brF (by decide) ⟨nn_of rfl B.k, ?_⟩
    rw [s1]
    refine ⟨nn_of rfl B.p2.k, ?_⟩
    rw [adr_some]
    refine pc_get (h := h.srm 0 0) B.p2 hik (pu ⟨.inr (nn_of rfl Y.1), ?_⟩)
    rw [fdN_some.2 ⟨hik, hw, hno⟩] at hQ
    exact hQ
  · rw [if_neg hw]
    refine brT rfl ?_
    rw [show I i + 1 = I (i + 1) from I_add _ 1]
    refine hK _ _ hik ⟨rfl, rfl, fun j hj e => ?_⟩
    by_cases ej : j = i
    · rw [ej] at e; exact hw e
    · exact hno j (by omega) e

theorem thK_nm {k : Nat} (hk : k ≠ 2) (hh : isNm tp t = true) : thK t k = bad t k := by
  unfold thK bad
  rw [if_neg hk, if_neg (by have := isNm_kd hh; omega)]
/-- a production must be named. -/
theorem g_prodTold (K : RdK h.c lo q o jn tpa tp n t) (B : PnR h.c L A g) (hc : 2 ≤ h.rc) (hs : 16 ≤ h.rs) {P : Option Nat → AH → Prop} {X : Nat → AH → Prop} {r : Except Fl Nat} (er : r = if isNm tp t then (match fdN A.pn A.g.nP (wrd tp t) with | none => .error (bad t 3) | some p => .ok p) else .error (bad t 2))
    (h1 : ∀ p, r = .ok p → isNm tp t = true → fdN A.pn A.g.nP (wrd tp t) = some p → ∀ h', Fr (WG lo q) h.c h'.c → RdK h'.c lo q o jn tpa tp n t → h'.rc = h.rc - 2 → h'.rs = h.rs - 16 → P (some (L.pa p)) h') (h0 : ∀ e, r = .error e → ∀ x h', Fr (WG lo q) h.c h'.c → ThR h'.c x e → X x h') :
    cl h fun mc ms => wp_X2_productionTold q (some g) (h.srm mc ms) (fun r h3 => ∀ h4, h4 = h3.srm (h.rc - mc) (h.rs - ms) → P r h4) (fun q8 h9 => ∀ h10, h10 = h9.srm (h.rc - mc) (h.rs - ms) → X q8 h10) := by
  refine ⟨2, 16, ⟨hc, hs⟩, ?_⟩
  dsimp only
  unfold wp_X2_productionTold
  refine ⟨nn_of rfl K.R.k, ?_⟩
  refine g_needsName (h := h.srm 2 16) K (show 1 ≤ 2 by decide) (show 8 ≤ 16 by decide) ?_ ?_
  · intro hn h4 F4 K4 c4 s4
    rw [if_pos hn] at er
    have B4 : PnR h4.c L A g := by
      have nf : ∀ f a, f < 300 ∨ 400 ≤ f → f ≠ 2202 → f ≠ 2203 → ¬ WG lo q f a := fun f a h1 h2 h3 hh => by have := hh.fl; omega
      have F4' : Fr (WG lo q) h.c h4.c := F4
      refine ⟨by rw [F4'.kd _ B.l]; exact B.k, Nat.lt_of_lt_of_le B.l F4'.sz, by rw [F4'.fr _ _ B.l (nf _ _ (by decide) (by decide) (by decide))]; exact B.p1, B.p2.keep F4' (nf _ _ (by decide) (by decide) (by decide)) (nf _ _ (by decide) (by decide) (by decide)) (nf _ _ (by decide) (by decide) (by decide)), B.nb, fun p hp => ⟨by rw [F4'.kd _ (B.pk p hp).2]; exact (B.pk p hp).1, Nat.lt_of_lt_of_le (B.pk p hp).2 F4'.sz⟩, fun p hp => ?_⟩
      obtain ⟨a, v, e1, e2⟩ := B.n1 p hp
      exact ⟨a, v, by rw [F4'.fr _ _ (B.pk p hp).2 (nf _ _ (by decide) (by decide) (by decide))]; exact e1, e2.keep F4' (nf _ _ (by decide) (by decide) (by decide)) (nf _ _ (by decide) (by decide) (by decide)) (nf _ _ (by decide) (by decide) (by decide))⟩
    obtain ⟨wa, wv, w1, w2, w3⟩ := K4.T.w0 (by have := isNm_kd hn; omega)
    refine ⟨nn_of rfl K4.R.k, nn_of rfl B4.k, ?_⟩
    rw [adr_some, show h4.fr 305 q = some wa from w1]
    refine px_named (h := h4.srm 0 0) B4 w2 (pu ?_)
    cases hf : fdN A.pn A.g.nP (wrd tp t) with
    | none =>
      rw [hf] at er
      refine brT rfl ⟨nn_of rfl K4.R.k, ?_⟩
      refine g_wrong (h := h4) K4 (k := 3) (by decide) (by rfl) (by rw [c4]; exact Nat.le_refl _) (by rw [s4]; exact Nat.le_refl _) (X := fun x h12 => ∀ h10, h10 = h12.srm (h.rc - 2) (h.rs - 16) → X x h10) ?_
      intro x h' F T h10 e10
      have c10 : h10.c = h'.c := by rw [e10]; rfl
      rw [thK_nm (by decide) hn] at T
      exact h0 _ er x h10 (by rw [c10]; exact F4.trans' F (fun _ _ _ hh => hh.elim)) (by rw [c10]; exact T)
    | some p =>
      rw [hf] at er
      refine brF (by simp) ?_
      intro h5 e5
      have c5 : h5.c = h4.c := by rw [e5]; rfl
      exact h1 p er hn hf h5 (by rw [c5]; exact F4) (by rw [c5]; exact K4) (by rw [e5]; rfl) (by rw [e5]; rfl)
  · intro hn x h' F T h10 e10
    rw [if_neg (by rw [hn]; decide)] at er
    have c10 : h10.c = h'.c := by rw [e10]; rfl
    exact h0 _ er x h10 (by rw [c10]; exact F) (by rw [c10]; exact T)
/-- a symbol must be named. -/
theorem g_symTold (K : RdK h.c lo q o jn tpa tp n t) (B : GB h.c L A ow z0 g) (hg : h.fr 310 q = some g) (hc : 2 ≤ h.rc) (hs : 16 ≤ h.rs) {P : Option Nat → AH → Prop} {X : Nat → AH → Prop}
    (h1 : ∀ s, isNm tp t = true → fdN A.sn A.g.nS (wrd tp t) = some s → ∀ h', Fr (WG lo q) h.c h'.c → RdK h'.c lo q o jn tpa tp n t → h'.rc = h.rc - 2 → h'.rs = h.rs - 16 → P (some (L.sa s)) h') (h0 : isNm tp t = true → fdN A.sn A.g.nS (wrd tp t) = none → ∀ x h', Fr (WG lo q) h.c h'.c → ThR h'.c x (bad t 3) → X x h') (h2 : isNm tp t = false → ∀ x h', Fr (WG lo q) h.c h'.c → ThR h'.c x (bad t 2) → X x h') :
    cl h fun mc ms => wp_X2_symbolTold q (h.srm mc ms) (fun r h3 => ∀ h4, h4 = h3.srm (h.rc - mc) (h.rs - ms) → P r h4) (fun q8 h9 => ∀ h10, h10 = h9.srm (h.rc - mc) (h.rs - ms) → X q8 h10) := by
  refine ⟨2, 16, ⟨hc, hs⟩, ?_⟩
  dsimp only
  unfold wp_X2_symbolTold
  refine ⟨nn_of rfl K.R.k, ?_⟩
  refine g_needsName (h := h.srm 2 16) K (show 1 ≤ 2 by decide) (show 8 ≤ 16 by decide) ?_ ?_
  · intro hn h4 F4 K4 c4 s4
    have F4' : Fr (WG lo q) h.c h4.c := F4
    have B4 := B.go F4'
    have h8 := B.W.nS
    obtain ⟨wa, wv, w1, w2, w3⟩ := K4.T.w0 (by have := isNm_kd hn; omega)
    have hg4 : h4.fr 310 q = some g := (F4'.fr 310 q K.R.l (by unfold WG; omega)).trans hg
    refine ⟨nn_of rfl K4.R.k, ?_⟩
    rw [hg4, show h4.fr 305 q = some wa from w1]
    refine ⟨nn_of rfl B4.k, ?_⟩
    rw [adr_some]
    refine px_symbolNamed (h := h4.srm 0 0) B4 w2 (pu ?_)
    cases hf : fdN A.sn A.g.nS (wrd tp t) with
    | none =>
      refine brF neg1_lt0 ⟨nn_of rfl K4.R.k, ?_⟩
      refine g_wrong (h := h4) K4 (k := 3) (by decide) (by rfl) (by rw [c4]; exact Nat.le_refl _) (by rw [s4]; exact Nat.le_refl _) (X := fun x h12 => ∀ h10, h10 = h12.srm (h.rc - 2) (h.rs - 16) → X x h10) ?_
      intro x h' F T h10 e10
      have c10 : h10.c = h'.c := by rw [e10]; rfl
      rw [thK_nm (by decide) hn] at T
      exact h0 hn hf x h10 (by rw [c10]; exact F4'.trans' F (fun _ _ _ hh => hh.elim)) (by rw [c10]; exact T)
    | some s =>
      have hs := (fdN_some.1 hf).1
      refine brT (zero_le_I (by omega)) ⟨nn_of rfl K4.R.k, ?_⟩
      rw [hg4]
      refine ⟨nn_of rfl B4.k, ?_⟩
      rw [adr_some, show h4.fr 400 g = some L.sl from B4.s1]
      refine ⟨nn_of rfl B4.s2.k, ?_⟩
      rw [adr_some]
      refine pc_get (h := h4.srm 0 0) B4.s2 hs (pu ⟨.inr (nn_of rfl (B4.sy s hs).R.k), ?_⟩)
      intro h5 e5
      have c5 : h5.c = h4.c := by rw [e5]; rfl
      exact h1 s hn hf h5 (by rw [c5]; exact F4) (by rw [c5]; exact K4) (by rw [e5]; rfl) (by rw [e5]; rfl)
  · intro hn x h' F T h10 e10
    have c10 : h10.c = h'.c := by rw [e10]; rfl
    exact h2 hn x h10 (by rw [c10]; exact F) (by rw [c10]; exact T)
end
