/-! plain: kz -/
set_option maxRecDepth 100000
section
variable {h : AH} {lo q o jn tpa : Nat} {tp : Nat → Nat} {n : Nat} {t : Tk} {L : GA} {A : PG} {g : Nat} {D D' : TA} {G : Gv} {T V : Tv} {sz : Nat → Nat}

/-- a whole text is read as a node. -/
theorem g_whole {oth dp : Nat} {need : Option Nat} (C : NdC h.c lo q o jn tpa tp n L A g 0 t) (ht : t = tok tp n 0) (hdp : dp ≤ 12) (h40 : oth ≤ 40) (hneed : ∀ s, need = some s → s < A.g.nS) (hc : 64 * (n + 2) ≤ h.rc) (hs : 1024 * (n + 2) ≤ h.rs) {Pp : Option Nat → AH → Prop} {X : Nat → AH → Prop}
    (h1 : ∀ P, pTr tp n A oth need dp = .ok P → ∀ h' D', Fr (WN lo q) h.c h'.c → RdR h'.c q o jn tpa tp n → NdS h'.c L D' A.g P.V 0 P.V.n h.sz → h'.rc = h.rc - 64 * (n + 2) → h'.rs = h.rs - 1024 * (n + 2) → Pp (some (D'.r 0)) h')
    (h0 : ∀ e, pTr tp n A oth need dp = .error e → ∀ x h', Fr (WN lo q) h.c h'.c → ThR h'.c x e → X x h') :
    cl h fun mc ms => wp_X2_whole q (need.map L.sa) (I dp) (I oth) (h.srm mc ms) (fun r h3 => ∀ h4, h4 = h3.srm (h.rc - mc) (h.rs - ms) → Pp r h4) (fun q8 h9 => ∀ h10, h10 = h9.srm (h.rc - mc) (h.rs - ms) → X q8 h10) := by
  refine ⟨64 * (n + 2), 1024 * (n + 2), ⟨hc, hs⟩, ?_⟩
  dsimp only
  generalize hM : 64 * (n + 2) = M at *
  generalize hS : 1024 * (n + 2) = S at *
  have le0 := C.K.le
  have nt : nN n t := ⟨le0, C.K.T.l2⟩
  have ep : pTr tp n A oth need dp = match pNd tp n A oth 16 need dp none 0 PT.nil t with
    | .error e => .error e
    | .ok q => if q.2.kd = 0 then .ok q.1 else .error (bad q.2 2) := by rw [ht]; rfl
  rw [ep] at h1 h0
  generalize hr : pNd tp n A oth 16 need dp none 0 PT.nil t = r at h1 h0
  have gg := pNd_g (tp := tp) (n := n) (A := A) (oth := oth) 16 need dp none 0 PT.nil t C.K.it nt
  have cost : eE n (fun x : PT × Tk => x.2) r ≤ n + 1 := by
    cases hr' : r with
    | error x => rw [eE_er rfl]; exact Nat.le_refl _
    | ok b => rw [eE_ok rfl]; have := (gg b (hr.trans hr')).2.2.1; omega
  unfold wp_X2_whole
  refine ⟨nn_of rfl C.K.R.k, ?_⟩
  refine g_readsNode (oth := oth) 16 (h.srm M S) t need dp none 0 PT.nil (0, 0, 0, 0, fun _ => 0, fun _ => 0, fun _ => 0, fun _ => 0, fun _ => 0) r _ _ C hr hdp (by omega) (by show oth + 0 ≤ 40; omega) hneed (by show 64 * (eE n (fun x : PT × Tk => x.2) r - t.fr) ≤ M; omega) (by show 1024 * (eE n (fun x : PT × Tk => x.2) r - t.fr) ≤ S; omega) ?_ ?_
  rotate_left
  · intro e he x h' F' T' h10 e10
    rw [he] at h0
    have c10 : h10.c = h'.c := by rw [e10]; rfl
    exact h0 _ rfl x h10 (by rw [c10]; exact F') (by rw [c10]; exact T')
  intro Q' t' eo h4 D' F4 C4 _ S4 rc4 rs4
  rw [eo] at h1 h0 cost
  have tn : t'.fr ≤ n + 1 := cost
  have t1 := (gg _ (hr.trans eo)).1
  have t1' : t.fr + 1 ≤ t'.fr := t1
  have tn' := C4.K.le
  have rc4' : 64 ≤ h4.rc := by
    rw [rc4]
    show 64 ≤ M - 64 * (t'.fr - t.fr)
    omega
  have rs4' : 1024 ≤ h4.rs := by
    rw [rs4]
    show 1024 ≤ S - 1024 * (t'.fr - t.fr)
    omega
  refine ⟨nn_of rfl C4.K.R.k, ?_⟩
  refine px_isEnd (h := h4.srm 0 0) C4.K (pu ?_)
  dsimp only at h1 h0
  by_cases he : t'.kd = 0
  · rw [if_pos he]
    refine brF (by decide) ?_
    intro h14 e14
    have c14 : h14.c = h4.c := by rw [e14]; rfl
    exact h1 Q' (if_pos he) h14 D' (by rw [c14]; exact F4) (by rw [c14]; exact C4.K.R) (by rw [c14]; exact S4) (by rw [e14]; rfl) (by rw [e14]; rfl)
  · rw [if_neg he]
    refine brT rfl ⟨nn_of rfl C4.K.R.k, ?_⟩
    refine g_wrong C4.K (k := 2) (by decide) (by rfl) (by omega) (by omega) (X := fun x h12 => ∀ h10, h10 = h12.srm (h.rc - M) (h.rs - S) → X x h10) ?_
    intro x h' F' T' h10 e10
    have c10 : h10.c = h'.c := by rw [e10]; rfl
    exact h0 _ (if_neg he) x h10 (by rw [c10]; exact Fr.trans F4 F'.wn0) (by rw [c10]; exact T')

/-- a node, but for its number and depth. -/
def NdQ (c : HC) (L : GA) (D : TA) (G : Gv) (T : Tv) (k : Nat) : Prop :=
  ((c.kd (D.r k)).1 = 15) ∧
  (D.r k < c.sz) ∧
  (c.fr 1500 (D.r k) = some (L.pa (T.pd k))) ∧
  (c.fi 1501 (D.r k) = T.nu k) ∧
  (c.fr 1504 (D.r k) = (T.pa k).map D.r) ∧
  (T.pa k ≠ none → c.fi 1505 (D.r k) = I (T.pl k)) ∧
  (c.fr 1506 (D.r k) = some (D.cl k)) ∧
  (Ls c (D.cl k) (D.cd k) (D.cm k) (G.kn (T.pd k)) (fun j => D.r (T.kd k (j + 1)))) ∧
  (c.fr 1507 (D.r k) = some (D.va k)) ∧
  (c.kd (D.va k) = (40, 8)) ∧
  (D.va k < c.sz)
theorem NdQ.k {c : HC} {L : GA} {D : TA} {G : Gv} {T : Tv} {k : Nat} (h9 : NdQ c L D G T k) : (c.kd (D.r k)).1 = 15 := h9.1
theorem NdQ.l {c : HC} {L : GA} {D : TA} {G : Gv} {T : Tv} {k : Nat} (h9 : NdQ c L D G T k) : D.r k < c.sz := h9.2.1
theorem NdQ.p {c : HC} {L : GA} {D : TA} {G : Gv} {T : Tv} {k : Nat} (h9 : NdQ c L D G T k) : c.fr 1500 (D.r k) = some (L.pa (T.pd k)) := h9.2.2.1
theorem NdQ.nu {c : HC} {L : GA} {D : TA} {G : Gv} {T : Tv} {k : Nat} (h9 : NdQ c L D G T k) : c.fi 1501 (D.r k) = T.nu k := h9.2.2.2.1
theorem NdQ.pa {c : HC} {L : GA} {D : TA} {G : Gv} {T : Tv} {k : Nat} (h9 : NdQ c L D G T k) : c.fr 1504 (D.r k) = (T.pa k).map D.r := h9.2.2.2.2.1
theorem NdQ.pl {c : HC} {L : GA} {D : TA} {G : Gv} {T : Tv} {k : Nat} (h9 : NdQ c L D G T k) : T.pa k ≠ none → c.fi 1505 (D.r k) = I (T.pl k) := h9.2.2.2.2.2.1
theorem NdQ.ch {c : HC} {L : GA} {D : TA} {G : Gv} {T : Tv} {k : Nat} (h9 : NdQ c L D G T k) : c.fr 1506 (D.r k) = some (D.cl k) := h9.2.2.2.2.2.2.1
theorem NdQ.ls {c : HC} {L : GA} {D : TA} {G : Gv} {T : Tv} {k : Nat} (h9 : NdQ c L D G T k) : Ls c (D.cl k) (D.cd k) (D.cm k) (G.kn (T.pd k)) (fun j => D.r (T.kd k (j + 1))) := h9.2.2.2.2.2.2.2.1
theorem NdQ.va {c : HC} {L : GA} {D : TA} {G : Gv} {T : Tv} {k : Nat} (h9 : NdQ c L D G T k) : c.fr 1507 (D.r k) = some (D.va k) := h9.2.2.2.2.2.2.2.2.1
theorem NdQ.vk {c : HC} {L : GA} {D : TA} {G : Gv} {T : Tv} {k : Nat} (h9 : NdQ c L D G T k) : c.kd (D.va k) = (40, 8) := h9.2.2.2.2.2.2.2.2.2.1
theorem NdQ.vl {c : HC} {L : GA} {D : TA} {G : Gv} {T : Tv} {k : Nat} (h9 : NdQ c L D G T k) : D.va k < c.sz := h9.2.2.2.2.2.2.2.2.2.2
theorem NdQ.keep {W : Nat → Nat → Prop} {c c' : HC} {k : Nat} (N : NdQ c L D G T k) (F : Fr W c c') (hf : ∀ f, f = 1500 ∨ f = 1501 ∨ f = 1504 ∨ f = 1505 ∨ f = 1506 ∨ f = 1507 → ¬ W f (D.r k)) (h1 : ¬ W 2301 (D.cl k)) (h2 : ¬ W 2302 (D.cl k)) (h3 : ¬ W 0 (D.cd k)) : NdQ c' L D G T k :=
  ⟨by rw [F.kd _ N.l]; exact N.k, Nat.lt_of_lt_of_le N.l F.sz, by rw [F.fr _ _ N.l (hf _ (by simp))]; exact N.p, by rw [F.fi _ _ N.l (hf _ (by simp))]; exact N.nu, by rw [F.fr _ _ N.l (hf _ (by simp))]; exact N.pa, fun hh => by rw [F.fi _ _ N.l (hf _ (by simp))]; exact N.pl hh, by rw [F.fr _ _ N.l (hf _ (by simp))]; exact N.ch, N.ls.keep F h2 h1 h3, by rw [F.fr _ _ N.l (hf _ (by simp))]; exact N.va, by rw [F.kd _ N.vl]; exact N.vk, Nat.lt_of_lt_of_le N.vl F.sz⟩
/-- nodes are being listed: so many are. -/
def LiR (c : HC) (L : GA) (D : TA) (G : Gv) (T : Tv) (t rl rd rm m : Nat) : Prop :=
  ((c.kd t).1 = 16) ∧
  (t < c.sz) ∧
  (c.fr 1602 t = some rl) ∧
  (Ls c rl rd rm m D.r) ∧
  (1 ≤ rm) ∧
  (∀ k, k < T.n → NdQ c L D G T k) ∧
  (∀ k, k < m → c.fi 1502 (D.r k) = I k ∧ c.fi 1503 (D.r k) = I (T.dp k)) ∧
  (∀ k, k < T.n → D.cl k ≠ rl ∧ D.cd k ≠ rd)
theorem LiR.tk {c : HC} {L : GA} {D : TA} {G : Gv} {T : Tv} {t rl rd rm m : Nat} (h9 : LiR c L D G T t rl rd rm m) : (c.kd t).1 = 16 := h9.1
theorem LiR.tl {c : HC} {L : GA} {D : TA} {G : Gv} {T : Tv} {t rl rd rm m : Nat} (h9 : LiR c L D G T t rl rd rm m) : t < c.sz := h9.2.1
theorem LiR.rw_ {c : HC} {L : GA} {D : TA} {G : Gv} {T : Tv} {t rl rd rm m : Nat} (h9 : LiR c L D G T t rl rd rm m) : c.fr 1602 t = some rl := h9.2.2.1
theorem LiR.ls {c : HC} {L : GA} {D : TA} {G : Gv} {T : Tv} {t rl rd rm m : Nat} (h9 : LiR c L D G T t rl rd rm m) : Ls c rl rd rm m D.r := h9.2.2.2.1
theorem LiR.m1 {c : HC} {L : GA} {D : TA} {G : Gv} {T : Tv} {t rl rd rm m : Nat} (h9 : LiR c L D G T t rl rd rm m) : 1 ≤ rm := h9.2.2.2.2.1
theorem LiR.nd {c : HC} {L : GA} {D : TA} {G : Gv} {T : Tv} {t rl rd rm m : Nat} (h9 : LiR c L D G T t rl rd rm m) : ∀ k, k < T.n → NdQ c L D G T k := h9.2.2.2.2.2.1
theorem LiR.ix {c : HC} {L : GA} {D : TA} {G : Gv} {T : Tv} {t rl rd rm m : Nat} (h9 : LiR c L D G T t rl rd rm m) : ∀ k, k < m → c.fi 1502 (D.r k) = I k ∧ c.fi 1503 (D.r k) = I (T.dp k) := h9.2.2.2.2.2.2.1
theorem LiR.nl {c : HC} {L : GA} {D : TA} {G : Gv} {T : Tv} {t rl rd rm m : Nat} (h9 : LiR c L D G T t rl rd rm m) : ∀ k, k < T.n → D.cl k ≠ rl ∧ D.cd k ≠ rd := h9.2.2.2.2.2.2.2
def WLi (rl rd : Nat) : Nat → Nat → Prop := fun f b => f = 1502 ∨ f = 1503 ∨ (b = rl ∧ (f = 2300 ∨ f = 2301 ∨ f = 2302)) ∨ (f = 0 ∧ b = rd)
theorem LiR.keep0 {c c' : HC} {t rl rd rm m : Nat} (S : LiR c L D G T t rl rd rm m) (hm : m ≤ T.n) (F : Fr W0 c c') : LiR c' L D G T t rl rd rm m :=
  ⟨by rw [F.kd _ S.tl]; exact S.tk, Nat.lt_of_lt_of_le S.tl F.sz, by rw [F.fr _ _ S.tl id]; exact S.rw_, S.ls.keep F id id id, S.m1, fun k hk => (S.nd k hk).keep F (fun _ _ => id) id id id, fun k hk => by rw [F.fi _ _ (S.nd k (by omega)).l id, F.fi _ _ (S.nd k (by omega)).l id]; exact S.ix k hk, S.nl⟩
theorem grw61 {k : Nat} (hk : k ≤ 40) : grw k ≤ 61 := by unfold grw; split <;> omega
theorem ls_s (d : Nat) : wp_X16_lists (d + 1) = wo_X16_lists (wp_X16_lists d) := rfl
theorem It.keep' {W : Nat → Nat → Prop} {c c' : HC} {i a k : Nat} (X : It c i a k) (ha : a < c.sz) (F : Fr W c c') (h1 : ∀ f, 2400 ≤ f → f ≤ 2403 → ¬ W f i) (h4 : ¬ W 2300 a) : It c' i a k := X.keep ha F (h1 _ (by decide) (by decide)) (h1 _ (by decide) (by decide)) (h1 _ (by decide) (by decide)) h4

theorem px_lists {A : PG} (K : trK A V sz) (hij : ∀ j k, j < V.n → k < V.n → D.r j = D.r k → j = k) {t rl : Nat} : ∀ (d k : Nat) (h : AH) (rd rm : Nat) (Q : AH → Prop), k < V.n → 12 ≤ d + V.dp k → LiR h.c L D A.g V t rl rd rm k → 2 * sz k ≤ h.rc → 65 * sz k ≤ h.rs →
    (∀ h' rd' rm', Fr (WLi rl rd) h.c h'.c → LiR h'.c L D A.g V t rl rd' rm' (k + sz k) → (rd' = rd ∨ h.sz ≤ rd') → Q h') → wp_X16_lists d t (some (D.r k)) (I (V.dp k)) h Q
  | 0, k, h, rd, rm, Q, hk, hd, _, _, _, _ => by
    have := (K.nd k hk).d
    have h9 : V.dp k < 12 := this
    omega
  | d + 1, k, h, rd, rm, Q, hk, hd, S, hc, hs, hQ => by
    have n40 := K.n40
    have Kk := K.nd k hk
    have d12 : V.dp k < 12 := Kk.d
    have s1 : 1 ≤ sz k := Kk.s1
    have s2 : k + sz k ≤ V.n := Kk.s2
    have Nk := S.nd k hk
    have W3 : A.g.kn (V.pd k) ≤ 40 := by
      by_cases h0 : A.g.kn (V.pd k) = 0
      · omega
      · exact Nat.le_of_not_lt (fun hlt => by
          -- children are numbered upwards
          have up : ∀ j, 1 ≤ j → j ≤ A.g.kn (V.pd k) → k + j ≤ V.kd k j := by
            intro j
            induction j with
            | zero => intro h1; omega
            | succ j ih =>
              intro _ h2
              by_cases j0 : j = 0
              · subst j0
                have := Kk.c1 (by show 1 ≤ A.g.kn (V.pd k); omega)
                have h9 : V.kd k 1 = k + 1 := this
                show k + (0 + 1) ≤ V.kd k 1
                omega
              · have c2 : V.kd k (j + 1) = V.kd k j + sz (V.kd k j) := Kk.c2 j (by omega) (by show j < A.g.kn (V.pd k); omega)
                have cc := Kk.c j (by omega) (by show j ≤ A.g.kn (V.pd k); omega)
                have i1 := ih (by omega) (by omega)
                have lt : V.kd k j < V.n := by have := cc.1.2; have h9 : V.kd k j < k + sz k := this; omega
                have := (K.nd _ lt).s1
                have h8 : 1 ≤ sz (V.kd k j) := this
                omega
          have := up 41 (by omega) (by omega)
          have cc := Kk.c 41 (by omega) (by show 41 ≤ A.g.kn (V.pd k); omega)
          have h9 : V.kd k 41 < k + sz k := cc.1.2
          omega)
    rw [ls_s]
    unfold wo_X16_lists
    refine ⟨nn_of rfl S.tk, ?_⟩
    rw [show h.fr 1602 t = some rl from S.rw_]
    refine ⟨nn_of rfl S.ls.k, ?_⟩
    rw [adr_some rl]
    refine pc_size (h := h.srm 0 0) S.ls (pu ⟨nn_of rfl Nk.k, ?_⟩)
    rw [adr_some (D.r k)]
    intro h7 e7 h8 e8
    have G8 : Fr (fun f b => b = D.r k ∧ (f = 1502 ∨ f = 1503)) h.c h8.c := by rw [e8, e7]; exact ((Fr.refl _).sfi _ (fun _ => ⟨rfl, .inl rfl⟩)).sfi _ (fun _ => ⟨rfl, .inr rfl⟩)
    have F8 : Fr (WLi rl rd) h.c h8.c := G8.mono (fun f b _ hh => by unfold WLi; omega)
    have z8 : h8.sz = h.sz := by rw [e8, e7]; rfl
    have r8 : h8.rc = h.rc ∧ h8.rs = h.rs := by rw [e8, e7]; exact ⟨rfl, rfl⟩
    have ix8 : h8.c.fi 1502 (D.r k) = I k ∧ h8.c.fi 1503 (D.r k) = I (V.dp k) := by
      constructor
      · show h8.fi 1502 _ = _
        rw [e8, sfi_ne _ _ _ _ (by decide), e7, sfi_same]
      · show h8.fi 1503 _ = _
        rw [e8, sfi_same]
    have L8 : Ls h8.c rl rd rm k D.r := S.ls.keep G8 (by omega) (by omega) (by omega)
    have N8 : ∀ j, j < V.n → NdQ h8.c L D A.g V j := fun j hj => (S.nd j hj).keep G8 (fun f hh => by omega) (by omega) (by omega) (by omega)
    have t8 : (h8.c.kd t).1 = 16 ∧ h8.c.fr 1602 t = some rl := ⟨by rw [G8.kd _ S.tl]; exact S.tk, by rw [G8.fr _ _ S.tl (by omega)]; exact S.rw_⟩
    refine ⟨nn_of rfl t8.1, ?_⟩
    rw [show h8.fr 1602 t = some rl from t8.2]
    refine ⟨nn_of rfl L8.k, ?_⟩
    rw [adr_some rl]
    have gk := grw61 (show k ≤ 40 by omega)
    refine g_add L8 (fun i hi => ⟨(N8 i (by omega)).l, by rw [(N8 i (by omega)).k]; rfl⟩) S.m1 (by omega) (N8 k hk).l (by show stk 44 (h8.kd (D.r k)).1 = true; rw [show (h8.kd (D.r k)).1 = 15 from (N8 k hk).k]; rfl) (by omega) (by omega) ?_
    intro h13 rd1 rm1 F13 L13 hm1 hd1 rc13 rs13
    have nW : ∀ f b, f ≠ 0 → f < 2300 ∨ 2302 < f → ¬ WL rl rd f b := by
      intro f b h1 h2 hw
      rcases hw with ⟨_, e⟩ | ⟨e, _⟩ <;> omega
    have z13 : h8.c.sz ≤ h13.c.sz := F13.sz
    have z8' : h8.c.sz = h8.sz := rfl
    have S13 : LiR h13.c L D A.g V t rl rd1 rm1 (k + 1) := by
      have tl8 : t < h8.c.sz := by have := S.tl; have : h.c.sz = h.sz := rfl; omega
      refine ⟨by rw [F13.kd _ tl8]; exact t8.1, by omega, by rw [F13.fr _ _ tl8 (nW _ _ (by decide) (by decide))]; exact t8.2, L13.congr (fun i hi => ?_), hm1, fun j hj => (N8 j hj).keep F13 (fun f hh => nW f _ (by omega) (by omega)) ?_ ?_ ?_, fun j hj => ?_, fun j hj => ⟨(S.nl j hj).1, ?_⟩⟩
      · by_cases e : i = k
        · rw [e, updN_same]
        · rw [updN_ne _ _ e]
      · rintro (⟨e, _⟩ | ⟨e, _⟩)
        · exact (S.nl j hj).1 e
        · omega
      · rintro (⟨e, _⟩ | ⟨e, _⟩)
        · exact (S.nl j hj).1 e
        · omega
      · rintro (⟨_, e⟩ | ⟨_, e⟩)
        · omega
        · exact (S.nl j hj).2 e
      · have jl : j < V.n := by omega
        rw [F13.fi _ _ (N8 j jl).l (nW _ _ (by decide) (by decide)), F13.fi _ _ (N8 j jl).l (nW _ _ (by decide) (by decide))]
        by_cases e : j = k
        · rw [e]; exact ix8
        · have hne : D.r j ≠ D.r k := fun e9 => e (hij j k jl hk e9)
          rw [G8.fi _ _ (S.nd j jl).l (fun hh => hne hh.1), G8.fi _ _ (S.nd j jl).l (fun hh => hne hh.1)]
          exact S.ix j (by omega)
      · rcases hd1 with e | e
        · rw [e]; exact (S.nl j hj).2
        · have := (N8 j hj).ls.dl
          omega
    have FF13 : Fr (WLi rl rd) h.c h13.c := F8.trans' F13 (fun f b hb hh => by
      unfold WLi
      rcases hh with ⟨e, hf⟩ | ⟨e1, e2⟩
      · omega
      · omega)
    have rd1h : rd1 = rd ∨ h.sz ≤ rd1 := by omega
    have N13 := S13.nd k hk
    refine ⟨nn_of rfl N13.k, ?_⟩
    rw [show h13.fr 1506 (D.r k) = some (D.cl k) from N13.ch]
    refine ⟨nn_of rfl N13.ls.k, 1, 4, ⟨by omega, by omega⟩, ?_⟩
    rw [adr_some]
    refine pc_iterator (h := h13.srm 1 4) N13.ls (Nat.le_refl _) (Nat.le_refl _) ?_
    intro h20 F20 I20 z20 _ _ h21 e21
    have c21 : h21.c = h20.c := by rw [e21]; rfl
    have F21 : Fr W0 h13.c h21.c := by rw [c21]; exact F20
    have I21 : It h21.c h13.sz (D.cl k) 0 := by rw [c21]; exact I20
    have r21 : h21.rc = h13.rc - 1 ∧ h21.rs = h13.rs - 4 := by rw [e21]; exact ⟨rfl, rfl⟩
    have S21 := S13.keep0 (by omega) F21
    have FF21 := FF13.trans' F21 (fun _ _ _ hh => hh.elim)
    -- where the children stand
    let mj : Nat → Nat := fun j => if j = 0 then k + 1 else V.kd k j + sz (V.kd k j)
    have mj0 : mj 0 = k + 1 := rfl
    have mjS : ∀ j, j < A.g.kn (V.pd k) → V.kd k (j + 1) = mj j := by
      intro j hj
      by_cases j0 : j = 0
      · subst j0
        have := Kk.c1 (by show 1 ≤ A.g.kn (V.pd k); omega)
        exact this
      · have c2 : V.kd k (j + 1) = V.kd k j + sz (V.kd k j) := Kk.c2 j (by omega) (by show j < A.g.kn (V.pd k); omega)
        show _ = if j = 0 then k + 1 else V.kd k j + sz (V.kd k j)
        rw [if_neg j0]; exact c2
    have mjE : mj (A.g.kn (V.pd k)) = k + sz k := by
      have c3 := Kk.c3
      have c3' : k + sz k = if A.g.kn (V.pd k) = 0 then k + 1 else V.kd k (A.g.kn (V.pd k)) + sz (V.kd k (A.g.kn (V.pd k))) := c3
      rw [c3']
    have mjN : ∀ j, mj (j + 1) = V.kd k (j + 1) + sz (V.kd k (j + 1)) := fun j => if_neg (by omega)
    have z21 : h21.sz = h13.sz + 1 := by rw [e21]; exact z20
    refine xlp_cnt (A.g.kn (V.pd k)) (fun j _ U => ∃ rd2 rm2, Fr (WLi rl rd) h.c U.c ∧ LiR U.c L D A.g V t rl rd2 rm2 (mj j) ∧ (rd2 = rd ∨ h.sz ≤ rd2) ∧ It U.c h13.sz (D.cl k) j ∧ mj j ≤ k + sz k ∧ h13.sz < U.sz ∧ 2 * (k + sz k - mj j) ≤ U.rc ∧ 65 * (k + sz k - mj j) ≤ U.rs) ⟨rd1, rm1, FF21, S21, rd1h, I21, by rw [mj0]; omega, by omega, by rw [mj0]; omega, by rw [mj0]; omega⟩ ?_
    intro j _ U K2 hj hh hK
    obtain ⟨rd2, rm2, FU, SU, rdU, IU, mle, itl, rcU, rsU⟩ := hh
    have NU := SU.nd k hk
    refine ⟨fun v U' => v = (if j = A.g.kn (V.pd k) then 0 else 1) ∧ U' = U, .inl ⟨nn_of rfl IU.k, ?_⟩, ?_⟩
    · rw [adr_some]
      exact pc_hasNext (h := U.srm 0 0) NU.ls IU hj (pu ⟨rfl, rfl⟩)
    intro v U' hh
    rw [hh.1, hh.2]
    by_cases ej : j = A.g.kn (V.pd k)
    · rw [if_pos ej]
      refine brT rfl ?_
      rw [ej, mjE] at SU
      exact hQ U rd2 rm2 FU SU rdU
    rw [if_neg ej]
    have hjk : j < A.g.kn (V.pd k) := by omega
    have hcc := Kk.c (j + 1) (by omega) (by show j + 1 ≤ A.g.kn (V.pd k); omega)
    have klt : V.kd k (j + 1) < k + sz k := hcc.1.2
    have ksz : V.kd k (j + 1) + sz (V.kd k (j + 1)) ≤ k + sz k := hcc.2.1
    have kdp : V.dp (V.kd k (j + 1)) = V.dp k + 1 := hcc.2.2.2.2.2
    have kn9 : V.kd k (j + 1) < V.n := by omega
    refine brF (by decide) ⟨fun v U' => v = some (D.r (V.kd k (j + 1))) ∧ Fr (fun f b => b = h13.sz ∧ (f = 2400 ∨ f = 2401)) U.c U'.c ∧ It U'.c h13.sz (D.cl k) (j + 1) ∧ U'.rc = U.rc ∧ U'.rs = U.rs ∧ U'.sz = U.sz, .inl ⟨nn_of rfl IU.k, 0, 0, ⟨Nat.zero_le _, Nat.zero_le _⟩, ?_⟩, ?_⟩
    · rw [adr_some]
      have hne : h13.sz ≠ D.cl k := by
        have := N13.ls.al
        have : h13.c.sz = h13.sz := rfl
        omega
      refine pc_next (h := U.srm 0 0) NU.ls IU hjk hne ?_
      intro h45 F45 I45 _ _ s45 h46 e46
      have c46 : h46.c = h45.c := by rw [e46]; rfl
      refine ⟨rfl, by rw [c46]; exact F45, by rw [c46]; exact I45, by rw [e46]; rfl, by rw [e46]; rfl, ?_⟩
      rw [e46]; exact s45
    intro v U2 hh2
    obtain ⟨ev, F2, I2, rc2, rs2, sz2⟩ := hh2
    rw [ev]
    have itn : ∀ j, j < V.n → D.r j ≠ h13.sz ∧ D.cl j ≠ h13.sz ∧ D.cd j ≠ h13.sz := fun j hj => by
      have a1 := (S13.nd j hj).l
      have a2 := (S13.nd j hj).ls.al
      have a3 := (S13.nd j hj).ls.dl
      have : h13.c.sz = h13.sz := rfl
      omega
    have tn : t ≠ h13.sz ∧ rl ≠ h13.sz := by
      have a1 := S13.tl
      have a2 := S13.ls.al
      have : h13.c.sz = h13.sz := rfl
      omega
    have S2 : LiR U2.c L D A.g V t rl rd2 rm2 (mj j) := by
      refine ⟨by rw [F2.kd _ SU.tl]; exact SU.tk, Nat.lt_of_lt_of_le SU.tl F2.sz, by rw [F2.fr _ _ SU.tl (by omega)]; exact SU.rw_, SU.ls.keep F2 (by omega) (by omega) (by omega), SU.m1, fun i hi => (SU.nd i hi).keep F2 (fun f hh => by omega) (by omega) (by omega) (by omega), fun i hi => ?_, SU.nl⟩
      rw [F2.fi _ _ (SU.nd i (by omega)).l (by omega), F2.fi _ _ (SU.nd i (by omega)).l (by omega)]
      exact SU.ix i hi
    refine ⟨.inr (nn_of rfl (S2.nd _ kn9).k), nn_of rfl S2.tk, 2 * sz (V.kd k (j + 1)), 65 * sz (V.kd k (j + 1)), ⟨?_, ?_⟩, ?_⟩
    · have := mjS j hjk
      omega
    · have := mjS j hjk
      omega
    rw [show I (V.dp k) + 1 = I (V.dp (V.kd k (j + 1))) by rw [kdp]; exact I_add _ 1]
    rw [← mjS j hjk] at S2
    have FU2 : Fr (WLi rl rd) h.c U2.c := FU.trans' F2 (fun f b hb hh => by
      have h9 : b < h.sz := hb
      have : h.c.sz ≤ h13.c.sz := FF13.sz
      have : h.c.sz = h.sz := rfl
      have : h13.c.sz = h13.sz := rfl
      omega)
    refine px_lists K hij d (V.kd k (j + 1)) (U2.srm (2 * sz (V.kd k (j + 1))) (65 * sz (V.kd k (j + 1)))) rd2 rm2 _ kn9 (by omega) S2 (Nat.le_refl _) (Nat.le_refl _) ?_
    intro h38 rd3 rm3 F38 S38 rd38 h39 e39
    have c39 : h39.c = h38.c := by rw [e39]; rfl
    have F38' : Fr (WLi rl rd2) U2.c h38.c := F38
    have rd38' : rd3 = rd2 ∨ U2.sz ≤ rd3 := rd38
    have zz2 : h.c.sz ≤ U2.c.sz := FU2.sz
    have zz3 : h.c.sz = h.sz := rfl
    have zz4 : U2.c.sz = U2.sz := rfl
    have zz5 : U2.c.sz ≤ h38.c.sz := F38'.sz
    refine hK _ _ hjk ⟨rd3, rm3, ?_, ?_, by omega, ?_, ?_, ?_, ?_, ?_⟩
    · rw [c39]
      exact FU2.trans' F38' (fun f b hb hh => by
        unfold WLi at *
        have h9 : b < h.sz := hb
        omega)
    · rw [c39, mjN]; exact S38
    · rw [c39]
      refine I2.keep' (by have := NU.ls.al; have := F2.sz; omega) F38' (fun f h1 h2 hh => ?_) (fun hh => ?_)
      · unfold WLi at hh
        have := tn.2
        omega
      · unfold WLi at hh
        have := (SU.nl k hk).1
        omega
    · rw [mjN]; exact ksz
    · have : h39.c.sz = h39.sz := rfl
      rw [c39] at this
      omega
    · rw [mjN, e39]
      show 2 * (k + sz k - (V.kd k (j + 1) + sz (V.kd k (j + 1)))) ≤ U2.rc - 2 * sz (V.kd k (j + 1))
      have := mjS j hjk
      omega
    · rw [mjN, e39]
      show 65 * (k + sz k - (V.kd k (j + 1) + sz (V.kd k (j + 1)))) ≤ U2.rs - 65 * sz (V.kd k (j + 1))
      have := mjS j hjk
      omega
end
