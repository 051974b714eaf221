/-! plain: vp -/
set_option maxRecDepth 100000
section
variable {h : AH} {o jn tpa : Nat} {X : AX} {x y z u : Int32} {L : GA} {A : PG} {g : Nat} {ind : Nat → Int32} {Q : Int32 → AH → Prop} {V : Tv} {sz : Nat → Nat} {gv : Nat → Int32}
variable {lo q n : Nat} {tp : Nat → Nat} {t : Tk} {D : TA}

def WCl (a d : Nat) : Nat → Nat → Prop := fun f b => (b = a ∧ (f = 2300 ∨ f = 2302)) ∨ (f = 0 ∧ b = d)
theorem pc_clear {a d m k : Nat} {xx yy : Nat → Nat} (Y : Ls h.c a d m k xx) {Q : AH → Prop} (hQ : ∀ h', Fr (WCl a d) h.c h'.c → Ls h'.c a d m 0 yy → h'.sz = h.sz → h'.rc = h.rc → h'.rs = h.rs → Q h') : wp_J12_clear a h Q := by
  have hmb := Y.mb
  have hnm := Y.nm
  have had : a < h.sz := Y.al
  have hk : (h.kd a).1 = 23 := Y.k
  have hd : h.kd d = (44, m) := Y.dk
  unfold wp_J12_clear
  refine ⟨nn_of rfl hk, ?_⟩
  intro h2 e2 h3 e3
  have s2 : h2.fi 2302 a = I k := by rw [e2, sfi_ne _ _ _ _ (by decide)]; exact Y.sz
  have r2 : h2.fr 2301 a = some d := by rw [e2]; exact Y.e
  have F3 : Fr (WCl a d) h.c h3.c := by
    rw [e3]
    refine Fr.sfi ?_ _ (fun _ => .inl ⟨rfl, .inr rfl⟩)
    rw [e2]
    exact (Fr.refl h.c).sfi _ (fun _ => .inl ⟨rfl, .inl rfl⟩)
  have f3 : h3.fi 2302 a = 0 := by rw [e3, sfi_same]
  rw [s2, r2]
  refine xlp_cnt k (fun i s U => s = I i ∧ Fr (WCl a d) h.c U.c ∧ U.sz = h.sz ∧ U.rc = h.rc ∧ U.rs = h.rs ∧ U.fi 2302 a = 0) ⟨rfl, F3, by rw [e3, e2]; rfl, by rw [e3, e2]; rfl, by rw [e3, e2]; rfl, f3⟩ ?_
  rintro i s U K hi ⟨rfl, F, z1, c1, c2, f1⟩ hK
  have kd : U.kd d = (44, m) := by rw [show U.kd d = h.kd d from F.kd d Y.dl]; exact hd
  by_cases ei : i = k
  · subst ei
    refine brT ((I_le (by omega) (by omega)).2 (Nat.le_refl _)) (hQ U F ⟨by rw [F.kd a Y.al]; exact Y.k, by show a < U.sz; omega, f1, ?_, kd, Nat.lt_of_lt_of_le Y.dl F.sz, Nat.zero_le _, Y.mb, fun i hi => absurd hi (Nat.not_lt_zero _)⟩ z1 c1 c2)
    rw [F.fr 2301 a Y.al (fun hh => by rcases hh with hh | hh <;> have := hh.1 <;> have := hh.2 <;> omega)]; exact Y.e
  · refine brF (fun hh => by have := (I_le (by omega) (by omega)).1 hh; omega) ⟨ix_of rfl kd (by omega) (by omega), .inl rfl, ?_⟩
    intro h7 e7
    rw [adr_some] at e7
    refine hK _ _ (by omega) ⟨I_add i 1, by rw [e7]; exact F.sar _ _ (fun _ => .inr ⟨rfl, rfl⟩), by rw [e7]; exact z1, by rw [e7]; exact c1, by rw [e7]; exact c2, by rw [e7]; exact f1⟩
theorem px_treeInit {t0 : Nat} (hk : (h.kd t0).1 = 16) (tl : t0 < h.sz) (hc : 3 ≤ h.rc) (hs : 11 ≤ h.rs) {Q : AH → Prop} {yy : Nat → Nat}
    (hQ : ∀ h', Fr (fun f b => b = t0 ∧ (f = 1601 ∨ f = 1602 ∨ f = 1603)) h.c h'.c → h'.fr 1601 t0 = some h.sz → h'.kd h.sz = (40, 4) → (∀ j, h'.ai h.sz j = 0) → h'.fr 1602 t0 = some (h.sz + 1) → Ls h'.c (h.sz + 1) (h.sz + 2) 4 0 yy → h'.sz = h.sz + 3 → h'.rc = h.rc - 3 → h'.rs = h.rs - 11 → Q h') : wp_X16_init t0 (some o) h Q := by
  unfold wp_X16_init
  refine ⟨nn_of rfl hk, ?_⟩
  intro h2 e2
  have F2 : Fr (fun f b => b = t0 ∧ (f = 1601 ∨ f = 1602 ∨ f = 1603)) h.c h2.c := by rw [e2]; exact (Fr.refl h.c).sfr _ (fun _ => ⟨rfl, .inr (.inr rfl)⟩)
  have z2 : h2.sz = h.sz := by rw [e2]; rfl
  have c2 : h2.rc = h.rc ∧ h2.rs = h.rs := by rw [e2]; exact ⟨rfl, rfl⟩
  have n4 : ni 4 = 4 := by decide
  refine ⟨⟨by decide, by rw [n4]; decide, by omega, by rw [n4]; omega⟩, ?_⟩
  rw [n4]
  intro h3 e3
  have F3 : Fr (fun f b => b = t0 ∧ (f = 1601 ∨ f = 1602 ∨ f = 1603)) h.c h3.c := by rw [e3]; exact F2.new _ _ _
  have z3 : h3.sz = h.sz + 1 := by rw [e3]; show h2.sz + 1 = _; omega
  have k3 : h3.kd h.sz = (40, 4) := by rw [e3, new_kd, if_pos z2.symm]
  have a3 : ∀ j, h3.ai h.sz j = 0 := fun j => by rw [e3, new_ai, if_pos z2.symm]
  refine ⟨nn_of rfl (by rw [show h3.kd t0 = h.kd t0 from F3.kd t0 tl]; exact hk), ?_⟩
  rw [z2]
  intro h5 e5
  have F5 : Fr (fun f b => b = t0 ∧ (f = 1601 ∨ f = 1602 ∨ f = 1603)) h.c h5.c := by rw [e5]; exact F3.sfr _ (fun _ => ⟨rfl, .inl rfl⟩)
  have z5 : h5.sz = h.sz + 1 := by rw [e5]; exact z3
  have r5 : h5.rc = h.rc - 1 ∧ h5.rs = h.rs - 4 := by rw [e5, e3]; show h2.rc - 1 = _ ∧ h2.rs - 4 = _; omega
  refine ⟨⟨by omega, by omega⟩, ?_⟩
  intro h6 e6
  have F6 : Fr (fun f b => b = t0 ∧ (f = 1601 ∨ f = 1602 ∨ f = 1603)) h.c h6.c := by rw [e6]; exact F5.new _ _ _
  have z6 : h6.sz = h.sz + 2 := by rw [e6]; show h5.sz + 1 = _; omega
  have r6 : h6.rc = h.rc - 2 ∧ h6.rs = h.rs - 7 := by rw [e6]; show h5.rc - 1 = _ ∧ h5.rs - 3 = _; omega
  have k6 : (h6.kd (h.sz + 1)).1 = 23 := by rw [e6, new_kd, if_pos z5.symm]
  have y6 : h6.fi 2302 (h.sz + 1) = 0 := by rw [e6, new_fi, if_pos z5.symm]
  have s6 : h6.fr 1601 t0 = some h.sz := by rw [e6, new_fr, if_neg (by omega), e5, sfr_same]
  have k6' : h6.kd h.sz = (40, 4) := by rw [e6, new_kd, if_neg (by omega), e5]; exact k3
  have a6 : ∀ j, h6.ai h.sz j = 0 := fun j => by rw [e6, new_ai, if_neg (by omega), e5]; exact a3 j
  rw [z5]
  refine ⟨1, 4, ⟨by omega, by omega⟩, ?_⟩
  refine pc_initL (h := h6.srm 1 4) (n := 4) k6 (by show h.sz + 1 < h6.sz; omega) y6 (by decide) (by decide) (Nat.le_refl _) (Nat.le_refl _) ?_
  intro h8 F8 L8 s8 _ _ h9 e9
  have c9 : h9.c = h8.c := by rw [e9]; rfl
  have zz : (h6.srm 1 4).sz = h.sz + 2 := z6
  have F9 : Fr (fun f b => b = h.sz + 1 ∧ (f = 2300 ∨ f = 2301)) h6.c h9.c := by rw [c9]; exact F8
  have G9 : Fr (fun f b => b = t0 ∧ (f = 1601 ∨ f = 1602 ∨ f = 1603)) h.c h9.c := F6.trans' F9 (fun f b hb hh => by have l : b < h.sz := hb; have := hh.1; omega)
  have L9 : Ls h9.c (h.sz + 1) (h.sz + 2) 4 0 yy := by rw [c9, ← zz]; exact L8 yy
  refine ⟨nn_of rfl (by rw [show h9.kd t0 = h.kd t0 from G9.kd t0 tl]; exact hk), ?_⟩
  intro h14 e14
  have F14 : Fr (fun f b => f = 1602 ∧ b = t0) h9.c h14.c := by rw [e14]; exact (Fr.refl h9.c).sfr _ (fun _ => ⟨rfl, rfl⟩)
  have l6 : h.sz < h6.c.sz := by show h.sz < h6.sz; omega
  have l9 : h.sz < h9.c.sz := Nat.lt_of_lt_of_le l6 F9.sz
  have t6 : t0 < h6.c.sz := by show t0 < h6.sz; omega
  have t9 : t0 < h9.c.sz := Nat.lt_of_lt_of_le t6 F9.sz
  refine hQ h14 ?_ ?_ ?_ ?_ ?_ ?_ ?_ ?_ ?_
  · rw [e14]; exact G9.sfr _ (fun _ => ⟨rfl, .inr (.inl rfl)⟩)
  · rw [show h14.fr 1601 t0 = h9.fr 1601 t0 from F14.fr _ _ t9 (fun hh => by have := hh.1; omega), show h9.fr 1601 t0 = h6.fr 1601 t0 from F9.fr _ _ t6 (fun hh => by have := hh.2; omega)]; exact s6
  · rw [show h14.kd h.sz = h9.kd h.sz from F14.kd _ l9, show h9.kd h.sz = h6.kd h.sz from F9.kd _ l6]; exact k6'
  · intro j
    rw [show h14.ai h.sz = h9.ai h.sz from F14.ai _ l9 (fun hh => by have := hh.1; omega), show h9.ai h.sz = h6.ai h.sz from F9.ai _ l6 (fun hh => by have := hh.2; omega)]; exact a6 j
  · rw [e14, sfr_same]
  · exact L9.keep F14 (fun hh => by have := hh.1; omega) (fun hh => by have := hh.1; omega) (fun hh => by have := hh.1; omega)
  · rw [e14]; show h9.sz = _; rw [e9]; show h8.sz = _; rw [s8]; show h6.sz + 1 = _; omega
  · rw [e14]; show h9.rc = _; rw [e9]; show h6.rc - 1 = _; omega
  · rw [e14]; show h9.rs = _; rw [e9]; show h6.rs - 4 = _; omega
theorem px_numbers (K : trK A V sz) (hij : ∀ j k, j < V.n → k < V.n → D.r j = D.r k → j = k) (d0 : V.dp 0 = 0) {t0 rl rd rm m : Nat} {xx : Nat → Nat} (tk : (h.kd t0).1 = 16) (tl : t0 < h.sz) (rw_ : h.fr 1602 t0 = some rl) (ls : Ls h.c rl rd rm m xx) (m1 : 1 ≤ rm) (nd : ∀ k, k < V.n → NdQ h.c L D A.g V k) (nl : ∀ k, k < V.n → D.cl k ≠ rl ∧ D.cd k ≠ rd)
    (rt : h.fr 1600 t0 = some (D.r 0)) (hc : 2 * V.n ≤ h.rc) (hs : 65 * V.n ≤ h.rs) {Q : AH → Prop} (hQ : ∀ h' rd' rm', Fr (WLi rl rd) h.c h'.c → LiR h'.c L D A.g V t0 rl rd' rm' V.n → (rd' = rd ∨ h.sz ≤ rd') → h'.rc = h.rc - 2 * V.n → h'.rs = h.rs - 65 * V.n → Q h') : wp_X16_numbers t0 h Q := by
  unfold wp_X16_numbers
  rw [rw_, adr_some]
  refine ⟨nn_of rfl tk, nn_of rfl ls.k, pc_clear (h := h.srm 0 0) (yy := D.r) ls ?_⟩
  intro h4 F4 L4 z4 _ _ h5 e5
  have F5 : Fr (WCl rl rd) h.c h5.c := by rw [e5]; exact F4
  have L5 : Ls h5.c rl rd rm 0 D.r := by rw [e5]; exact L4
  have z5 : h5.sz = h.sz := by rw [e5]; exact z4
  have r5 : h5.rc = h.rc ∧ h5.rs = h.rs := by rw [e5]; exact ⟨rfl, rfl⟩
  have nf : ∀ f b, f ≠ 0 → f ≠ 2300 → f ≠ 2302 → ¬ WCl rl rd f b := fun f b h1 h2 h3 hh => by
    rcases hh with hh | hh
    · have := hh.2; omega
    · exact h1 hh.1
  have rt5 : h5.fr 1600 t0 = some (D.r 0) := (F5.fr 1600 t0 tl (nf _ _ (by decide) (by decide) (by decide))).trans rt
  have k5 : (h5.kd t0).1 = 16 := by rw [show h5.kd t0 = h.kd t0 from F5.kd t0 tl]; exact tk
  have n1 := K.n1
  have s0 := K.s0
  have S5 : LiR h5.c L D A.g V t0 rl rd rm 0 := ⟨k5, by show t0 < h5.sz; omega, (F5.fr 1602 t0 tl (nf _ _ (by decide) (by decide) (by decide))).trans rw_, L5, m1, fun k hk => (nd k hk).keep F5 (fun f hf => nf _ _ (by omega) (by omega) (by omega)) (nf _ _ (by decide) (by decide) (by decide)) (fun hh => by
      rcases hh with hh | hh
      · exact (nl k hk).1 hh.1
      · exact absurd hh.1 (by decide)) (fun hh => by
      rcases hh with hh | hh
      · exact absurd hh.2 (by decide)
      · exact (nl k hk).2 hh.2), fun k hk => absurd hk (Nat.not_lt_zero _), nl⟩
  rw [rt5]
  refine ⟨nn_of rfl k5, 2 * V.n, 65 * V.n, ⟨by omega, by omega⟩, ?_⟩
  have key := px_lists K hij (t := t0) (rl := rl) 15 0 (h5.srm (2 * V.n) (65 * V.n)) rd rm (fun h8 => ∀ h9, h9 = h8.srm (h5.rc - 2 * V.n) (h5.rs - 65 * V.n) → Q h9) (by omega) (by omega) S5 (by rw [s0]; exact Nat.le_refl _) (by rw [s0]; exact Nat.le_refl _) (fun h8 rd' rm' F8 S8 hrd h9 e9 => by
    have F9 : Fr (WLi rl rd) h5.c h9.c := by rw [e9]; exact F8
    rw [s0, Nat.zero_add] at S8
    refine hQ h9 rd' rm' ((F5.mono (fun f b _ hh => ?_)).trans F9) (by rw [e9]; exact S8) ?_ (by rw [e9]; show h5.rc - _ = _; omega) (by rw [e9]; show h5.rs - _ = _; omega)
    · rcases hh with hh | hh
      · exact .inr (.inr (.inl ⟨hh.1, by have := hh.2; omega⟩))
      · exact .inr (.inr (.inr hh))
    · rcases hrd with e | e
      · exact .inl e
      · exact .inr (by have : h5.sz ≤ rd' := e; omega))
  rw [d0] at key
  exact key
end
