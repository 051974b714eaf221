/-! plain: uj -/
set_option maxRecDepth 100000
section
variable {h : AH} {o jn tpa : Nat} {X : AX} {L : GA} {A : PG} {g : Nat} {ind : Nat → Int32} {V V' : Tv} {sz sz' : Nat → Nat} {gv : Nat → Int32} {D D1 : TA} {k : Nat} {P : PT}
variable {zz i0 ga w : Nat} {hsh : Option (Nat × Nat)} {B : IA} {tu un : Nat} {s : TjS} {v : Vl}

/-- of a tree's nodes and of those that come. -/
def gsel (k s m : Nat) (f f1 : Nat → Nat) : Nat → Nat := fun e => if e < k then f e else if e < k + m then f1 (e - k) else f (e + s - m)
theorem gsel_st {s m j : Nat} (f f1 : Nat → Nat) (hs : 1 ≤ s) (h : stU k s j) (hj : j ≠ k) : gsel k s m f f1 (rnU k s m j) = f j := by
  unfold gsel
  rcases h with h | h
  · rw [rnU_le h, if_pos (by omega)]
  · rw [rnU_gt (by omega), if_neg (by omega), if_neg (by omega), show j + m - s + s - m = j by omega]
theorem gsel_in {s m q : Nat} (f f1 : Nat → Nat) (hq : q < m) : gsel k s m f f1 (k + q) = f1 q := by
  unfold gsel
  rw [if_neg (by omega), if_pos (by omega), show k + q - k = q by omega]
def TA.gr (D D1 : TA) (k s m rd rm : Nat) : TA := (D.t, D.rl, rd, rm, gsel k s m D.r D1.r, gsel k s m D.cl D1.cl, gsel k s m D.cd D1.cd, gsel k s m D.cm D1.cm, gsel k s m D.va D1.va)
/-- all that is known ahead of a graft. -/
def GrH (c : HC) (o jn tpa : Nat) (X : AX) (L : GA) (A : PG) (g : Nat) (ind : Nat → Int32) (V V' : Tv) (sz sz' : Nat → Nat) (gv : Nat → Int32) (D D1 : TA) (k : Nat) (P : PT) (zz i0 ga w : Nat) (hsh : Option (Nat × Nat)) (B : IA) (tu un : Nat) (s : TjS) (v : Vl) : Prop :=
  (X.OK) ∧
  (CbR c o jn tpa) ∧
  (CtR c o tpa (X.ws 0)) ∧
  (CoR c) ∧
  (NzJ c) ∧
  (CsI c) ∧
  (X.gr = some (A, ind)) ∧
  (c.fr 103 o = some g) ∧
  (c.lo ≤ zz) ∧
  (zz ≤ c.sz) ∧
  (CgR (c.cut zz) L A g ind) ∧
  (c.fr 104 o = hsh.map Prod.fst) ∧
  (∀ x sm, hsh = some (x, sm) → ShR c x sm A.g) ∧
  (∀ x sm, hsh = some (x, sm) → sm < w) ∧
  (∀ x sm, hsh = some (x, sm) → ∀ k, k < V.n → D.va k ≠ sm) ∧
  (GrK A V sz k P V' sz') ∧
  (V'.dp 0 = 0) ∧
  (TrX c L A V gv o zz D i0 B tu un s ga v) ∧
  (NdS c L D1 A.g P.V 0 P.V.n w) ∧
  (w ≤ c.sz) ∧
  (zz ≤ w) ∧
  (∀ j, j < V.n → D.r j < w ∧ D.cl j < w ∧ D.cd j < w ∧ D.va j < w) ∧
  (D.t < w ∧ D.rl < w ∧ D.rd < w ∧ ga < w ∧ o < w)
theorem GrH.ok {c : HC} {o jn tpa : Nat} {X : AX} {L : GA} {A : PG} {g : Nat} {ind : Nat → Int32} {V V' : Tv} {sz sz' : Nat → Nat} {gv : Nat → Int32} {D D1 : TA} {k : Nat} {P : PT} {zz i0 ga w : Nat} {hsh : Option (Nat × Nat)} {B : IA} {tu un : Nat} {s : TjS} {v : Vl} (h9 : GrH c o jn tpa X L A g ind V V' sz sz' gv D D1 k P zz i0 ga w hsh B tu un s v) : X.OK := h9.1
theorem GrH.B0 {c : HC} {o jn tpa : Nat} {X : AX} {L : GA} {A : PG} {g : Nat} {ind : Nat → Int32} {V V' : Tv} {sz sz' : Nat → Nat} {gv : Nat → Int32} {D D1 : TA} {k : Nat} {P : PT} {zz i0 ga w : Nat} {hsh : Option (Nat × Nat)} {B : IA} {tu un : Nat} {s : TjS} {v : Vl} (h9 : GrH c o jn tpa X L A g ind V V' sz sz' gv D D1 k P zz i0 ga w hsh B tu un s v) : CbR c o jn tpa := h9.2.1
theorem GrH.Y0 {c : HC} {o jn tpa : Nat} {X : AX} {L : GA} {A : PG} {g : Nat} {ind : Nat → Int32} {V V' : Tv} {sz sz' : Nat → Nat} {gv : Nat → Int32} {D D1 : TA} {k : Nat} {P : PT} {zz i0 ga w : Nat} {hsh : Option (Nat × Nat)} {B : IA} {tu un : Nat} {s : TjS} {v : Vl} (h9 : GrH c o jn tpa X L A g ind V V' sz sz' gv D D1 k P zz i0 ga w hsh B tu un s v) : CtR c o tpa (X.ws 0) := h9.2.2.1
theorem GrH.Z0 {c : HC} {o jn tpa : Nat} {X : AX} {L : GA} {A : PG} {g : Nat} {ind : Nat → Int32} {V V' : Tv} {sz sz' : Nat → Nat} {gv : Nat → Int32} {D D1 : TA} {k : Nat} {P : PT} {zz i0 ga w : Nat} {hsh : Option (Nat × Nat)} {B : IA} {tu un : Nat} {s : TjS} {v : Vl} (h9 : GrH c o jn tpa X L A g ind V V' sz sz' gv D D1 k P zz i0 ga w hsh B tu un s v) : CoR c := h9.2.2.2.1
theorem GrH.J0 {c : HC} {o jn tpa : Nat} {X : AX} {L : GA} {A : PG} {g : Nat} {ind : Nat → Int32} {V V' : Tv} {sz sz' : Nat → Nat} {gv : Nat → Int32} {D D1 : TA} {k : Nat} {P : PT} {zz i0 ga w : Nat} {hsh : Option (Nat × Nat)} {B : IA} {tu un : Nat} {s : TjS} {v : Vl} (h9 : GrH c o jn tpa X L A g ind V V' sz sz' gv D D1 k P zz i0 ga w hsh B tu un s v) : NzJ c := h9.2.2.2.2.1
theorem GrH.I0 {c : HC} {o jn tpa : Nat} {X : AX} {L : GA} {A : PG} {g : Nat} {ind : Nat → Int32} {V V' : Tv} {sz sz' : Nat → Nat} {gv : Nat → Int32} {D D1 : TA} {k : Nat} {P : PT} {zz i0 ga w : Nat} {hsh : Option (Nat × Nat)} {B : IA} {tu un : Nat} {s : TjS} {v : Vl} (h9 : GrH c o jn tpa X L A g ind V V' sz sz' gv D D1 k P zz i0 ga w hsh B tu un s v) : CsI c := h9.2.2.2.2.2.1
theorem GrH.hg {c : HC} {o jn tpa : Nat} {X : AX} {L : GA} {A : PG} {g : Nat} {ind : Nat → Int32} {V V' : Tv} {sz sz' : Nat → Nat} {gv : Nat → Int32} {D D1 : TA} {k : Nat} {P : PT} {zz i0 ga w : Nat} {hsh : Option (Nat × Nat)} {B : IA} {tu un : Nat} {s : TjS} {v : Vl} (h9 : GrH c o jn tpa X L A g ind V V' sz sz' gv D D1 k P zz i0 ga w hsh B tu un s v) : X.gr = some (A, ind) := h9.2.2.2.2.2.2.1
theorem GrH.f3 {c : HC} {o jn tpa : Nat} {X : AX} {L : GA} {A : PG} {g : Nat} {ind : Nat → Int32} {V V' : Tv} {sz sz' : Nat → Nat} {gv : Nat → Int32} {D D1 : TA} {k : Nat} {P : PT} {zz i0 ga w : Nat} {hsh : Option (Nat × Nat)} {B : IA} {tu un : Nat} {s : TjS} {v : Vl} (h9 : GrH c o jn tpa X L A g ind V V' sz sz' gv D D1 k P zz i0 ga w hsh B tu un s v) : c.fr 103 o = some g := h9.2.2.2.2.2.2.2.1
theorem GrH.zl {c : HC} {o jn tpa : Nat} {X : AX} {L : GA} {A : PG} {g : Nat} {ind : Nat → Int32} {V V' : Tv} {sz sz' : Nat → Nat} {gv : Nat → Int32} {D D1 : TA} {k : Nat} {P : PT} {zz i0 ga w : Nat} {hsh : Option (Nat × Nat)} {B : IA} {tu un : Nat} {s : TjS} {v : Vl} (h9 : GrH c o jn tpa X L A g ind V V' sz sz' gv D D1 k P zz i0 ga w hsh B tu un s v) : c.lo ≤ zz := h9.2.2.2.2.2.2.2.2.1
theorem GrH.zs {c : HC} {o jn tpa : Nat} {X : AX} {L : GA} {A : PG} {g : Nat} {ind : Nat → Int32} {V V' : Tv} {sz sz' : Nat → Nat} {gv : Nat → Int32} {D D1 : TA} {k : Nat} {P : PT} {zz i0 ga w : Nat} {hsh : Option (Nat × Nat)} {B : IA} {tu un : Nat} {s : TjS} {v : Vl} (h9 : GrH c o jn tpa X L A g ind V V' sz sz' gv D D1 k P zz i0 ga w hsh B tu un s v) : zz ≤ c.sz := h9.2.2.2.2.2.2.2.2.2.1
theorem GrH.C {c : HC} {o jn tpa : Nat} {X : AX} {L : GA} {A : PG} {g : Nat} {ind : Nat → Int32} {V V' : Tv} {sz sz' : Nat → Nat} {gv : Nat → Int32} {D D1 : TA} {k : Nat} {P : PT} {zz i0 ga w : Nat} {hsh : Option (Nat × Nat)} {B : IA} {tu un : Nat} {s : TjS} {v : Vl} (h9 : GrH c o jn tpa X L A g ind V V' sz sz' gv D D1 k P zz i0 ga w hsh B tu un s v) : CgR (c.cut zz) L A g ind := h9.2.2.2.2.2.2.2.2.2.2.1
theorem GrH.f4 {c : HC} {o jn tpa : Nat} {X : AX} {L : GA} {A : PG} {g : Nat} {ind : Nat → Int32} {V V' : Tv} {sz sz' : Nat → Nat} {gv : Nat → Int32} {D D1 : TA} {k : Nat} {P : PT} {zz i0 ga w : Nat} {hsh : Option (Nat × Nat)} {B : IA} {tu un : Nat} {s : TjS} {v : Vl} (h9 : GrH c o jn tpa X L A g ind V V' sz sz' gv D D1 k P zz i0 ga w hsh B tu un s v) : c.fr 104 o = hsh.map Prod.fst := h9.2.2.2.2.2.2.2.2.2.2.2.1
theorem GrH.H {c : HC} {o jn tpa : Nat} {X : AX} {L : GA} {A : PG} {g : Nat} {ind : Nat → Int32} {V V' : Tv} {sz sz' : Nat → Nat} {gv : Nat → Int32} {D D1 : TA} {k : Nat} {P : PT} {zz i0 ga w : Nat} {hsh : Option (Nat × Nat)} {B : IA} {tu un : Nat} {s : TjS} {v : Vl} (h9 : GrH c o jn tpa X L A g ind V V' sz sz' gv D D1 k P zz i0 ga w hsh B tu un s v) : ∀ x sm, hsh = some (x, sm) → ShR c x sm A.g := h9.2.2.2.2.2.2.2.2.2.2.2.2.1
theorem GrH.hw {c : HC} {o jn tpa : Nat} {X : AX} {L : GA} {A : PG} {g : Nat} {ind : Nat → Int32} {V V' : Tv} {sz sz' : Nat → Nat} {gv : Nat → Int32} {D D1 : TA} {k : Nat} {P : PT} {zz i0 ga w : Nat} {hsh : Option (Nat × Nat)} {B : IA} {tu un : Nat} {s : TjS} {v : Vl} (h9 : GrH c o jn tpa X L A g ind V V' sz sz' gv D D1 k P zz i0 ga w hsh B tu un s v) : ∀ x sm, hsh = some (x, sm) → sm < w := h9.2.2.2.2.2.2.2.2.2.2.2.2.2.1
theorem GrH.hn {c : HC} {o jn tpa : Nat} {X : AX} {L : GA} {A : PG} {g : Nat} {ind : Nat → Int32} {V V' : Tv} {sz sz' : Nat → Nat} {gv : Nat → Int32} {D D1 : TA} {k : Nat} {P : PT} {zz i0 ga w : Nat} {hsh : Option (Nat × Nat)} {B : IA} {tu un : Nat} {s : TjS} {v : Vl} (h9 : GrH c o jn tpa X L A g ind V V' sz sz' gv D D1 k P zz i0 ga w hsh B tu un s v) : ∀ x sm, hsh = some (x, sm) → ∀ k, k < V.n → D.va k ≠ sm := h9.2.2.2.2.2.2.2.2.2.2.2.2.2.2.1
theorem GrH.G {c : HC} {o jn tpa : Nat} {X : AX} {L : GA} {A : PG} {g : Nat} {ind : Nat → Int32} {V V' : Tv} {sz sz' : Nat → Nat} {gv : Nat → Int32} {D D1 : TA} {k : Nat} {P : PT} {zz i0 ga w : Nat} {hsh : Option (Nat × Nat)} {B : IA} {tu un : Nat} {s : TjS} {v : Vl} (h9 : GrH c o jn tpa X L A g ind V V' sz sz' gv D D1 k P zz i0 ga w hsh B tu un s v) : GrK A V sz k P V' sz' := h9.2.2.2.2.2.2.2.2.2.2.2.2.2.2.2.1
theorem GrH.d0 {c : HC} {o jn tpa : Nat} {X : AX} {L : GA} {A : PG} {g : Nat} {ind : Nat → Int32} {V V' : Tv} {sz sz' : Nat → Nat} {gv : Nat → Int32} {D D1 : TA} {k : Nat} {P : PT} {zz i0 ga w : Nat} {hsh : Option (Nat × Nat)} {B : IA} {tu un : Nat} {s : TjS} {v : Vl} (h9 : GrH c o jn tpa X L A g ind V V' sz sz' gv D D1 k P zz i0 ga w hsh B tu un s v) : V'.dp 0 = 0 := h9.2.2.2.2.2.2.2.2.2.2.2.2.2.2.2.2.1
theorem GrH.T {c : HC} {o jn tpa : Nat} {X : AX} {L : GA} {A : PG} {g : Nat} {ind : Nat → Int32} {V V' : Tv} {sz sz' : Nat → Nat} {gv : Nat → Int32} {D D1 : TA} {k : Nat} {P : PT} {zz i0 ga w : Nat} {hsh : Option (Nat × Nat)} {B : IA} {tu un : Nat} {s : TjS} {v : Vl} (h9 : GrH c o jn tpa X L A g ind V V' sz sz' gv D D1 k P zz i0 ga w hsh B tu un s v) : TrX c L A V gv o zz D i0 B tu un s ga v := h9.2.2.2.2.2.2.2.2.2.2.2.2.2.2.2.2.2.1
theorem GrH.NS {c : HC} {o jn tpa : Nat} {X : AX} {L : GA} {A : PG} {g : Nat} {ind : Nat → Int32} {V V' : Tv} {sz sz' : Nat → Nat} {gv : Nat → Int32} {D D1 : TA} {k : Nat} {P : PT} {zz i0 ga w : Nat} {hsh : Option (Nat × Nat)} {B : IA} {tu un : Nat} {s : TjS} {v : Vl} (h9 : GrH c o jn tpa X L A g ind V V' sz sz' gv D D1 k P zz i0 ga w hsh B tu un s v) : NdS c L D1 A.g P.V 0 P.V.n w := h9.2.2.2.2.2.2.2.2.2.2.2.2.2.2.2.2.2.2.1
theorem GrH.wl {c : HC} {o jn tpa : Nat} {X : AX} {L : GA} {A : PG} {g : Nat} {ind : Nat → Int32} {V V' : Tv} {sz sz' : Nat → Nat} {gv : Nat → Int32} {D D1 : TA} {k : Nat} {P : PT} {zz i0 ga w : Nat} {hsh : Option (Nat × Nat)} {B : IA} {tu un : Nat} {s : TjS} {v : Vl} (h9 : GrH c o jn tpa X L A g ind V V' sz sz' gv D D1 k P zz i0 ga w hsh B tu un s v) : w ≤ c.sz := h9.2.2.2.2.2.2.2.2.2.2.2.2.2.2.2.2.2.2.2.1
theorem GrH.zw {c : HC} {o jn tpa : Nat} {X : AX} {L : GA} {A : PG} {g : Nat} {ind : Nat → Int32} {V V' : Tv} {sz sz' : Nat → Nat} {gv : Nat → Int32} {D D1 : TA} {k : Nat} {P : PT} {zz i0 ga w : Nat} {hsh : Option (Nat × Nat)} {B : IA} {tu un : Nat} {s : TjS} {v : Vl} (h9 : GrH c o jn tpa X L A g ind V V' sz sz' gv D D1 k P zz i0 ga w hsh B tu un s v) : zz ≤ w := h9.2.2.2.2.2.2.2.2.2.2.2.2.2.2.2.2.2.2.2.2.1
theorem GrH.od {c : HC} {o jn tpa : Nat} {X : AX} {L : GA} {A : PG} {g : Nat} {ind : Nat → Int32} {V V' : Tv} {sz sz' : Nat → Nat} {gv : Nat → Int32} {D D1 : TA} {k : Nat} {P : PT} {zz i0 ga w : Nat} {hsh : Option (Nat × Nat)} {B : IA} {tu un : Nat} {s : TjS} {v : Vl} (h9 : GrH c o jn tpa X L A g ind V V' sz sz' gv D D1 k P zz i0 ga w hsh B tu un s v) : ∀ j, j < V.n → D.r j < w ∧ D.cl j < w ∧ D.cd j < w ∧ D.va j < w := h9.2.2.2.2.2.2.2.2.2.2.2.2.2.2.2.2.2.2.2.2.2.1
theorem GrH.ot {c : HC} {o jn tpa : Nat} {X : AX} {L : GA} {A : PG} {g : Nat} {ind : Nat → Int32} {V V' : Tv} {sz sz' : Nat → Nat} {gv : Nat → Int32} {D D1 : TA} {k : Nat} {P : PT} {zz i0 ga w : Nat} {hsh : Option (Nat × Nat)} {B : IA} {tu un : Nat} {s : TjS} {v : Vl} (h9 : GrH c o jn tpa X L A g ind V V' sz sz' gv D D1 k P zz i0 ga w hsh B tu un s v) : D.t < w ∧ D.rl < w ∧ D.rd < w ∧ ga < w ∧ o < w := h9.2.2.2.2.2.2.2.2.2.2.2.2.2.2.2.2.2.2.2.2.2.2
theorem GrH.cg {c : HC} (E : GrH c o jn tpa X L A g ind V V' sz sz' gv D D1 k P zz i0 ga w hsh B tu un s v) : CgR c L A g ind := E.C.up E.zs
/-- where a node of the new tree comes from. -/
theorem GrK.cases (G : GrK A V sz k P V' sz') {e : Nat} (he : e < V'.n) : (∃ j, j < V.n ∧ stU k (sz k) j ∧ j ≠ k ∧ rnU k (sz k) P.V.n j = e) ∨ ∃ q, q < P.V.n ∧ e = k + q := by
  obtain ⟨m1, m2, m3, m4⟩ := G.m1
  by_cases hin : k ≤ e ∧ e < k + P.V.n
  · exact .inr ⟨e - k, by omega, by omega⟩
  · obtain ⟨j, h1, h2, h3, h4, h5⟩ := G.node he (by omega)
    refine .inl ⟨j, h1, h2, fun ej => ?_, h3⟩
    rcases Nat.lt_or_ge k e with l | l
    · have := h5 l; omega
    · have := h4 l; omega
/-- what putting the one in the other's place writes. -/
def WR (D D1 : TA) (V : Tv) : Nat → Nat → Prop := fun f a => (f = 0 ∧ ∃ j, j < V.n ∧ a = D.cd j) ∨ ((f = 1504 ∨ f = 1505) ∧ a = D1.r 0) ∨ (f = 1600 ∧ a = D.t)
/-- what stands when the one is in the other's place. -/
def GrM (c : HC) (L : GA) (A : PG) (V : Tv) (V' : Tv) (sz : Nat → Nat) (D D1 : TA) (k : Nat) (P : PT) : Prop :=
  (∀ e, e < V'.n → ∀ rd rm, NdQ c L (D.gr D1 k (sz k) P.V.n rd rm) A.g V' e) ∧
  (∀ rd rm, c.fr 1600 D.t = some ((D.gr D1 k (sz k) P.V.n rd rm).r 0))
theorem GrM.nd {c : HC} {L : GA} {A : PG} {V : Tv} {V' : Tv} {sz : Nat → Nat} {D D1 : TA} {k : Nat} {P : PT} (h9 : GrM c L A V V' sz D D1 k P) : ∀ e, e < V'.n → ∀ rd rm, NdQ c L (D.gr D1 k (sz k) P.V.n rd rm) A.g V' e := h9.1
theorem GrM.rt {c : HC} {L : GA} {A : PG} {V : Tv} {V' : Tv} {sz : Nat → Nat} {D D1 : TA} {k : Nat} {P : PT} (h9 : GrM c L A V V' sz D D1 k P) : ∀ rd rm, c.fr 1600 D.t = some ((D.gr D1 k (sz k) P.V.n rd rm).r 0) := h9.2
/-- what is to be shown of the heap then. -/
theorem GrH.put {c c' : HC} (E : GrH c o jn tpa X L A g ind V V' sz sz' gv D D1 k P zz i0 ga w hsh B tu un s v) (F : Fr (WR D D1 V) c c')
    (h4 : c'.fr 1504 (D1.r 0) = (V.pa k).map D.r) (h5 : V.pa k ≠ none → c'.fi 1505 (D1.r 0) = I (V.pl k)) (hrt : c'.fr 1600 D.t = some (if k = 0 then D1.r 0 else D.r 0))
    (hls : ∀ q, q < V.n → Ls c' (D.cl q) (D.cd q) (D.cm q) (A.g.kn (V.pd q)) (fun j => if V.kd q (j + 1) = k then D1.r 0 else D.r (V.kd q (j + 1)))) : GrM c' L A V V' sz D D1 k P := by
  have G := E.G
  have Z := G.Z
  obtain ⟨m1, m2, m3, m4⟩ := G.m1
  have TT := E.T.R.I.K.R
  have dsj : ∀ j q, j < V.n → q < P.V.n → D.r j ≠ D1.r q ∧ D.cl j ≠ D1.cl q ∧ D.cd j ≠ D1.cd q := fun j q hj hq => by
    have a := E.od j hj
    have b := E.NS.z q (Nat.zero_le _) hq
    omega
  have wr : ∀ f a, f ≠ 0 → f ≠ 1504 → f ≠ 1505 → f ≠ 1600 → ¬ WR D D1 V f a := fun f a a1 a2 a3 a4 hh => by
    rcases hh with hh | hh | hh <;> omega
  refine ⟨fun e he rd rm => ?_, fun rd rm => ?_⟩
  · rcases G.cases he with ⟨j, j1, j2, j3, j4⟩ | ⟨q, q1, q2⟩
    · -- one that stays
      have N := TT.nd j j1
      have er : (D.gr D1 k (sz k) P.V.n rd rm).r e = D.r j := by rw [← j4]; exact gsel_st _ _ m2 j2 j3
      have ecl : (D.gr D1 k (sz k) P.V.n rd rm).cl e = D.cl j := by rw [← j4]; exact gsel_st _ _ m2 j2 j3
      have ecd : (D.gr D1 k (sz k) P.V.n rd rm).cd e = D.cd j := by rw [← j4]; exact gsel_st _ _ m2 j2 j3
      have ecm : (D.gr D1 k (sz k) P.V.n rd rm).cm e = D.cm j := by rw [← j4]; exact gsel_st _ _ m2 j2 j3
      have eva : (D.gr D1 k (sz k) P.V.n rd rm).va e = D.va j := by rw [← j4]; exact gsel_st _ _ m2 j2 j3
      have epd : V'.pd e = V.pd j := by rw [← j4]; exact Z.pd j j2 j3
      have n15 : ∀ f, f = 1504 ∨ f = 1505 → ¬ WR D D1 V f (D.r j) := fun f hf hh => by
        rcases hh with hh | hh | hh
        · omega
        · exact (dsj j 0 j1 m1).1 hh.2
        · omega
      refine ⟨?_, ?_, ?_, ?_, ?_, fun hp => ?_, ?_, ?_, ?_, ?_, ?_⟩
      · rw [er, F.kd _ N.l]; exact N.k
      · rw [er]; exact Nat.lt_of_lt_of_le N.l F.sz
      · rw [er, epd, F.fr _ _ N.l (wr _ _ (by decide) (by decide) (by decide) (by decide))]; exact N.p
      · rw [er, F.fi _ _ N.l (wr _ _ (by decide) (by decide) (by decide) (by decide)), ← j4, Z.nu j j2 j3]; exact N.nu
      · rw [er, F.fr _ _ N.l (n15 _ (.inl rfl)), N.pa, ← j4]
        cases hp : V.pa j with
        | none =>
          have e0 := (G.K.WF.root j j1).1 hp
          have : V'.pa (rnU k (sz k) P.V.n j) = none := by
            have hjk : j ≤ k := by rcases j2 with l | l <;> omega
            rw [rnU_le hjk, Z.pa1 j (by omega)]; exact hp
          rw [this]; rfl
        | some q =>
          obtain ⟨s1, s2, s3⟩ := G.K.stP G.hk j1 j2 hp
          have : V'.pa (rnU k (sz k) P.V.n j) = some (rnU k (sz k) P.V.n q) := by
            rcases Nat.lt_or_ge j k with l | l
            · rw [rnU_le (by omega), Z.pa1 j l, hp, rnU_le (by omega)]
            · exact Z.pa2 j q (by rcases j2 with l2 | l2 <;> omega) hp
          rw [this]
          show some (D.r q) = some (gsel k (sz k) P.V.n D.r D1.r (rnU k (sz k) P.V.n q))
          rw [gsel_st _ _ m2 s1 s2]
      · rw [er, F.fi _ _ N.l (n15 _ (.inr rfl)), ← j4, Z.pl j j2]
        refine N.pl (fun hh => hp ?_)
        have e0 := (G.K.WF.root j j1).1 hh
        have hjk : j ≤ k := by rcases j2 with l | l <;> omega
        rw [← j4, rnU_le hjk, Z.pa1 j (by omega)]; exact hh
      · rw [er, ecl, F.fr _ _ N.l (wr _ _ (by decide) (by decide) (by decide) (by decide))]; exact N.ch
      · rw [ecl, ecd, ecm, epd]
        refine (hls j j1).congr (fun c hc => ?_)
        show (D.gr D1 k (sz k) P.V.n rd rm).r (V'.kd e (c + 1)) = if V.kd j (c + 1) = k then D1.r 0 else D.r (V.kd j (c + 1))
        have hst := G.K.stK G.hk j1 j2 j3 (j := c + 1) (by omega) (by omega)
        rw [← j4, Z.kd j (c + 1) j2 j3]
        show gsel k (sz k) P.V.n D.r D1.r (rnU k (sz k) P.V.n (V.kd j (c + 1))) = _
        by_cases ek : V.kd j (c + 1) = k
        · rw [if_pos ek, ek, rnU_le (Nat.le_refl _)]
          have := gsel_in (k := k) (s := sz k) (m := P.V.n) D.r D1.r (q := 0) m1
          rw [Nat.add_zero] at this
          exact this
        · rw [if_neg ek]; exact gsel_st _ _ m2 hst ek
      · rw [er, eva, F.fr _ _ N.l (wr _ _ (by decide) (by decide) (by decide) (by decide))]; exact N.va
      · rw [eva, F.kd _ N.vl]; exact N.vk
      · rw [eva]; exact Nat.lt_of_lt_of_le N.vl F.sz
    · -- one that comes
      have N := E.NS.nd q (Nat.zero_le _) q1
      have er : (D.gr D1 k (sz k) P.V.n rd rm).r e = D1.r q := by rw [q2]; exact gsel_in _ _ q1
      have ecl : (D.gr D1 k (sz k) P.V.n rd rm).cl e = D1.cl q := by rw [q2]; exact gsel_in _ _ q1
      have ecd : (D.gr D1 k (sz k) P.V.n rd rm).cd e = D1.cd q := by rw [q2]; exact gsel_in _ _ q1
      have ecm : (D.gr D1 k (sz k) P.V.n rd rm).cm e = D1.cm q := by rw [q2]; exact gsel_in _ _ q1
      have eva : (D.gr D1 k (sz k) P.V.n rd rm).va e = D1.va q := by rw [q2]; exact gsel_in _ _ q1
      have epd : V'.pd e = P.V.pd q := by rw [q2]; exact Z.pdP q q1
      have ncd : ∀ a, a = D1.cd q → ¬ WR D D1 V 0 a := fun a ha hh => by
        rcases hh with ⟨_, j, hj, e9⟩ | hh | hh
        · exact (dsj j q hj q1).2.2 (by rw [← e9, ha])
        · omega
        · omega
      have nls : Ls c' (D1.cl q) (D1.cd q) (D1.cm q) (A.g.kn (P.V.pd q)) (fun j => D1.r (P.V.kd q (j + 1))) := N.ls.keep F (wr _ _ (by decide) (by decide) (by decide) (by decide)) (wr _ _ (by decide) (by decide) (by decide) (by decide)) (ncd _ rfl)
      refine ⟨?_, ?_, ?_, ?_, ?_, fun hp => ?_, ?_, ?_, ?_, ?_, ?_⟩
      · rw [er, F.kd _ N.l]; exact N.k
      · rw [er]; exact Nat.lt_of_lt_of_le N.l F.sz
      · rw [er, epd, F.fr _ _ N.l (wr _ _ (by decide) (by decide) (by decide) (by decide))]; exact N.p
      · rw [er, F.fi _ _ N.l (wr _ _ (by decide) (by decide) (by decide) (by decide)), q2, Z.nuP q q1]; exact N.nu
      · rw [er, q2]
        rcases Nat.eq_zero_or_pos q with e0 | e0
        · subst e0
          rw [Nat.add_zero, h4, Z.paK]
          cases hp : V.pa k with
          | none => rfl
          | some p0 =>
            obtain ⟨s1, s2, s3⟩ := G.K.stP G.hk G.hk (.inl (Nat.le_refl _)) hp
            show some (D.r p0) = some (gsel k (sz k) P.V.n D.r D1.r p0)
            have := gsel_st (m := P.V.n) D.r D1.r m2 s1 s2
            rw [rnU_le (by omega)] at this
            rw [this]
        · obtain ⟨a1, a2⟩ := E.NS.lk q e0 q1
          have nf : ¬ WR D D1 V 1504 (D1.r q) := fun hh => by
            rcases hh with hh | hh | hh
            · omega
            · exact (E.NS.ij 0 q (Nat.le_refl _) e0 q1).1 hh.2.symm
            · omega
          rw [F.fr _ _ N.l nf, a1]
          obtain ⟨p0, b1, b2, b3, b4, b5, b6⟩ := G.KP.pr q e0 q1
          have b1' : P.V.pa q = some p0 := b1
          have b3' : p0 < q := b3
          rw [b1', Z.paP q p0 e0 q1 b1']
          show some (D1.r p0) = some (gsel k (sz k) P.V.n D.r D1.r (k + p0))
          rw [gsel_in _ _ (by omega)]
      · rw [er, q2]
        rcases Nat.eq_zero_or_pos q with e0 | e0
        · subst e0
          rw [Nat.add_zero]
          have e9 := Z.pl k (.inl (Nat.le_refl _))
          rw [rnU_le (Nat.le_refl _)] at e9
          rw [e9]
          refine h5 (fun hh => hp ?_)
          rw [q2, Nat.add_zero, Z.paK]; exact hh
        · obtain ⟨a1, a2⟩ := E.NS.lk q e0 q1
          have nf : ¬ WR D D1 V 1505 (D1.r q) := fun hh => by
            rcases hh with hh | hh | hh
            · omega
            · exact (E.NS.ij 0 q (Nat.le_refl _) e0 q1).1 hh.2.symm
            · omega
          rw [F.fi _ _ N.l nf, a2, Z.plP q e0 q1]
      · rw [er, ecl, F.fr _ _ N.l (wr _ _ (by decide) (by decide) (by decide) (by decide))]; exact N.ch
      · rw [ecl, ecd, ecm, epd]
        refine nls.congr (fun c hc => ?_)
        show (D.gr D1 k (sz k) P.V.n rd rm).r (V'.kd e (c + 1)) = D1.r (P.V.kd q (c + 1))
        rw [q2, Z.kdP q (c + 1) q1]
        have hk2 := (G.KP.kid (i := q) (j := c + 1) q1 (by omega) (by omega)).2.2.2.2.2.2.2
        exact gsel_in _ _ hk2
      · rw [er, eva, F.fr _ _ N.l (wr _ _ (by decide) (by decide) (by decide) (by decide))]; exact N.va
      · rw [eva, F.kd _ N.vl]; exact N.vk
      · rw [eva]; exact Nat.lt_of_lt_of_le N.vl F.sz
  · rw [hrt]
    show some _ = some (gsel k (sz k) P.V.n D.r D1.r 0)
    unfold gsel
    by_cases e : k = 0
    · rw [if_pos e, if_neg (by omega), if_pos (by omega), show 0 - k = 0 by omega]
    · rw [if_neg e, if_pos (by omega)]
end
