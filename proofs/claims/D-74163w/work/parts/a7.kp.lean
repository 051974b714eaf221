/-! plain: kp -/
set_option maxRecDepth 100000
section
variable {h : AH} {lo q o jn tpa : Nat} {tp : Nat → Nat} {n : Nat} {t : Tk} {L L' : GA} {A A' : PG} {ow ow' : Nat → Nat} {z0 g p : Nat}

theorem px_twoInit {a : Nat} {p0 p1 p2 : Option Nat} (hk : (h.kd a).1 = 12) {Q : AH → Prop} (hQ : ∀ h', Fr (fun f b => b = a ∧ 1200 ≤ f ∧ f ≤ 1202) h.c h'.c → h'.fr 1200 a = p0 → h'.fr 1201 a = p1 → h'.fr 1202 a = p2 → h'.rc = h.rc → h'.rs = h.rs → Q h') : wp_X12_init a p0 p1 p2 h Q := by
  unfold wp_X12_init wp_X7_init
  intro h3 e3
  have e3' : h3 = h := by rw [e3]; rfl
  rw [e3']
  refine ⟨nn_of rfl hk, ?_⟩
  intro h5 e5 h6 e6 h7 e7
  have F5 : Fr (fun f b => b = a ∧ 1200 ≤ f ∧ f ≤ 1202) h.c h5.c := by rw [e5]; exact (Fr.refl _).sfr _ (fun _ => ⟨rfl, by decide, by decide⟩)
  have F6 : Fr (fun f b => b = a ∧ 1200 ≤ f ∧ f ≤ 1202) h.c h6.c := by rw [e6]; exact F5.sfr _ (fun _ => ⟨rfl, by decide, by decide⟩)
  have F7 : Fr (fun f b => b = a ∧ 1200 ≤ f ∧ f ≤ 1202) h.c h7.c := by rw [e7]; exact F6.sfr _ (fun _ => ⟨rfl, by decide, by decide⟩)
  refine hQ h7 F7 ?_ ?_ ?_ (by rw [e7, e6, e5]; rfl) (by rw [e7, e6, e5]; rfl)
  · rw [e7, sfr_ne _ _ _ _ (by decide), e6, sfr_ne _ _ _ _ (by decide), e5, sfr_same]
  · rw [e7, sfr_ne _ _ _ _ (by decide), e6, sfr_same]
  · rw [e7, sfr_same]
theorem px_ifInit {a : Nat} {p0 p1 p2 : Option Nat} (hk : (h.kd a).1 = 8) {Q : AH → Prop} (hQ : ∀ h', Fr (fun f b => b = a ∧ 800 ≤ f ∧ f ≤ 802) h.c h'.c → h'.fr 800 a = p0 → h'.fr 801 a = p1 → h'.fr 802 a = p2 → h'.rc = h.rc → h'.rs = h.rs → Q h') : wp_X8_init a p0 p1 p2 h Q := by
  unfold wp_X8_init wp_X7_init
  intro h3 e3
  have e3' : h3 = h := by rw [e3]; rfl
  rw [e3']
  refine ⟨nn_of rfl hk, ?_⟩
  intro h5 e5 h6 e6 h7 e7
  have F5 : Fr (fun f b => b = a ∧ 800 ≤ f ∧ f ≤ 802) h.c h5.c := by rw [e5]; exact (Fr.refl _).sfr _ (fun _ => ⟨rfl, by decide, by decide⟩)
  have F6 : Fr (fun f b => b = a ∧ 800 ≤ f ∧ f ≤ 802) h.c h6.c := by rw [e6]; exact F5.sfr _ (fun _ => ⟨rfl, by decide, by decide⟩)
  have F7 : Fr (fun f b => b = a ∧ 800 ≤ f ∧ f ≤ 802) h.c h7.c := by rw [e7]; exact F6.sfr _ (fun _ => ⟨rfl, by decide, by decide⟩)
  refine hQ h7 F7 ?_ ?_ ?_ (by rw [e7, e6, e5]; rfl) (by rw [e7, e6, e5]; rfl)
  · rw [e7, sfr_ne _ _ _ _ (by decide), e6, sfr_ne _ _ _ _ (by decide), e5, sfr_same]
  · rw [e7, sfr_ne _ _ _ _ (by decide), e6, sfr_same]
  · rw [e7, sfr_same]
theorem lv_end {c : Nat} (hc : 3 ≤ c) : Ex.lv [(c, 0)] = 0 := by
  show (if c ≤ 2 then 1 else 0) + 0 = 0
  rw [if_neg (by omega)]
theorem PtR.two {c : HC} {a x y : Nat} {ex ey : Ex} {k : Fin 8} (hl : a < c.sz) (hk : (c.kd a).1 = 12) (f0 : c.fr 1200 a = sref (c.cs (600 + k.val))) (f1 : c.fr 1201 a = some x) (f2 : c.fr 1202 a = some y) (X : PtR c (Ex.lv ex) x ex) (Y : PtR c (Ex.lv ey) y ey) : PtR c (Ex.lv (ex ++ ey ++ [(jc k, 0)])) a (ex ++ ey ++ [(jc k, 0)]) := by
  have hj := jc_3 k
  have e : Ex.lv (ex ++ ey ++ [(jc k, 0)]) = (Ex.lv ex + Ex.lv ey - 1) + 1 := by
    have := X.lv1
    rw [Ex.lv_app, Ex.lv_app, lv_end (by omega)]; omega
  rw [e]
  have lx := X.lv1
  have ly := Y.lv1
  exact ⟨hl, .inr (.inr (.inr (.inl ⟨hk, k, x, y, ex, ey, f0, f1, f2, X.mono (by omega), Y.mono (by omega), List.append_assoc _ _ _⟩)))⟩
theorem PtR.if_ {c : HC} {a x y z : Nat} {ex ey ez : Ex} (hl : a < c.sz) (hk : (c.kd a).1 = 8) (f0 : c.fr 800 a = some x) (f1 : c.fr 801 a = some y) (f2 : c.fr 802 a = some z) (X : PtR c (Ex.lv ex) x ex) (Y : PtR c (Ex.lv ey) y ey) (Z : PtR c (Ex.lv ez) z ez) : PtR c (Ex.lv (ex ++ ey ++ ez ++ [(3, 0)])) a (ex ++ ey ++ ez ++ [(3, 0)]) := by
  have e : Ex.lv (ex ++ ey ++ ez ++ [(3, 0)]) = (Ex.lv ex + Ex.lv ey + Ex.lv ez - 1) + 1 := by
    have := X.lv1
    rw [Ex.lv_app, Ex.lv_app, Ex.lv_app, lv_end (by omega)]; omega
  rw [e]
  have lx := X.lv1
  have ly := Y.lv1
  have lz := Z.lv1
  exact ⟨hl, .inr (.inr (.inr (.inr ⟨hk, x, y, z, ex, ey, ez, f0, f1, f2, X.mono (by omega), Y.mono (by omega), Z.mono (by omega), by rw [List.append_assoc, List.append_assoc]⟩)))⟩
theorem okE.up {pa : Nat} {r : ER} (hk : okE tp n A p pa t r) {b : Ex × Nat × Tk} (e : r = .ok b) : t.fr + 1 ≤ b.2.2.fr ∧ isT tp n b.2.2 ∧ b.2.1 ≤ 24 ∧ pa + 1 ≤ b.2.1 := by
  obtain ⟨e1, q1, t1⟩ := b
  have hh := hk e1 q1 t1 e
  have h9 := hh.2.1
  have h8 : 1 ≤ e1.length := by
    have h7 := hh.1.h 0
    cases e1 with
    | nil => exact absurd h7 (by simp [Ex.hgt])
    | cons x l => simp
  exact ⟨by show t.fr + 1 ≤ t1.fr; omega, hh.2.2.1, hh.1.m, hh.2.2.2⟩

/-- an expression, then a sign. -/
theorem g_sE {d pa c ci : Nat} {rs : Nat → Nat → Tk → ER} {rE : Nat → AH → (Option Nat → AH → Prop) → (Nat → AH → Prop) → Prop} (hE : SpE lo q o jn tpa tp n L A ow z0 g p (rs d) d rE) (hok : ∀ pa t, isT tp n t → pa ≤ 24 → okE tp n A p pa t (rs d pa t)) (hN : ∀ pa t b, nN n t → rs d pa t = .ok b → nN n b.2.2)
    (hci : ci < 24) (eci : ksb ci = [c]) (hsg : sgn c = true) {U : AH} (C : ExC U.c lo q o jn tpa tp n L A ow z0 g p t d pa) {r1 : ER} (er1 : pSE tp n rs d pa c t = r1) (hc : 64 * (eE n (fun x => x.2.2) r1 - t.fr) ≤ U.rc) (hs : 1024 * (eE n (fun x => x.2.2) r1 - t.fr) ≤ U.rs) {P : Option Nat → AH → Prop} {X : Nat → AH → Prop}
    (h1 : ∀ e pa' t', r1 = .ok (e, pa', t') → ∀ a h', Fr (WE lo q) U.c h'.c → ExC h'.c lo q o jn tpa tp n L A ow z0 g p t' d pa' → PtR h'.c (Ex.lv e) a e → U.rc - 64 * (t'.fr - t.fr) ≤ h'.rc → U.rs - 1024 * (t'.fr - t.fr) ≤ h'.rs → P (some a) h') (h0 : ∀ e, r1 = .error e → ∀ x h', Fr (WE lo q) U.c h'.c → ThR h'.c x e → X x h') :
    nn U (some q) 3 ∧ cl U fun mc20 ms21 => rE q (U.srm mc20 ms21) (fun r17 h18 => ∀ h19, h19 = h18.srm (U.rc - mc20) (U.rs - ms21) → nn h19 (some q) 3 ∧ cl h19 fun mc30 ms31 => wp_X2_must q (sref (h19.cs ci)) (h19.srm mc30 ms31) (fun h28 => ∀ h29, h29 = h28.srm (h19.rc - mc30) (h19.rs - ms31) → P r17 h29) (fun q33 h34 => ∀ h35, h35 = h34.srm (h19.rc - mc30) (h19.rs - ms31) → X q33 h35)) (fun q23 h24 => ∀ h25, h25 = h24.srm (U.rc - mc20) (U.rs - ms21) → X q23 h25) := by
  refine ⟨nn_of rfl C.K.R.k, ?_⟩
  unfold pSE at er1
  have nt : nN n t := ⟨C.K.le, C.K.T.l2⟩
  generalize hr : rs d pa t = r at er1
  -- the sum's end is ahead of the end
  have key : eE n (fun x : Ex × Nat × Tk => x.2.2) r ≤ eE n (fun x : Ex × Nat × Tk => x.2.2) r1 ∧ ∀ b, r = .ok b → b.2.2.fr + 1 ≤ eE n (fun x : Ex × Nat × Tk => x.2.2) r1 ∧ t.fr + 1 ≤ b.2.2.fr := by
    cases r with
    | error x =>
      have e9 : r1 = .error x := er1.symm
      exact ⟨by rw [e9]; exact Nat.le_refl _, fun b hb => absurd hb (by simp)⟩
    | ok b =>
      have nb := hN _ _ _ nt hr
      have ub := (hok pa t C.K.it C.m).up hr
      have h9 : b.2.2.fr + 1 ≤ eE n (fun x : Ex × Nat × Tk => x.2.2) r1 := by
        dsimp only at er1
        cases he : pEat tp n c b.2.2 with
        | error x =>
          rw [he] at er1
          have e9 : r1 = .error x := er1.symm
          rw [e9, eE_er rfl]
          have := nb.1
          omega
        | ok t' =>
          rw [he] at er1
          have e9 : r1 = .ok (b.1, b.2.1, t') := er1.symm
          rw [e9, eE_ok rfl]
          exact (pEat_ok ub.2.1 he).2.2.1
      refine ⟨by rw [eE_ok rfl]; omega, fun b' hb => ?_⟩
      have e9 : b = b' := by simpa using hb
      rw [← e9]; exact ⟨h9, ub.1⟩
  refine hE U t pa r _ _ C hr (by omega) (by omega) ?_ ?_
  rotate_left
  · intro e he
    rw [he] at er1
    exact h0 _ er1.symm
  intro e pa' t2 eo a h19 F19 C19 X19 rc19 rs19
  rw [eo] at er1
  dsimp only at er1
  obtain ⟨k1, k2⟩ := key.2 _ eo
  have k1' : t2.fr + 1 ≤ eE n (fun x : Ex × Nat × Tk => x.2.2) r1 := k1
  have k2' : t.fr + 1 ≤ t2.fr := k2
  refine ⟨nn_of rfl C19.K.R.k, ?_⟩
  have hb : isB tp n t2 (ksb ci) ↔ isSg t2 c = true := by rw [eci]; exact isB_s C19.K.T.kk hsg
  unfold pEat at er1
  refine g_must C19.K hci hb (by omega) (by omega) ?_ ?_
  · intro hsg2 h29 F29 K29 rc29 rs29
    rw [if_pos hsg2] at er1
    have e9 : r1 = .ok (e, pa', nxt tp n t2) := er1.symm
    have up := C19.K.it.up (sg_ne hsg2)
    refine h1 _ _ _ e9 a h29 (F19.trans F29.we) (C19.go F29 K29) (X19.we F29.we) ?_ ?_
    · have : 64 * ((nxt tp n t2).fr - t.fr) = 64 * (t2.fr - t.fr) + 64 * ((nxt tp n t2).fr - t2.fr) := by omega
      omega
    · have : 1024 * ((nxt tp n t2).fr - t.fr) = 1024 * (t2.fr - t.fr) + 1024 * ((nxt tp n t2).fr - t2.fr) := by omega
      omega
  · intro hsg2 x h' F' T'
    rw [if_neg (by rw [hsg2]; decide)] at er1
    exact h0 _ er1.symm x h' (F19.trans F'.we0) T'

/-- the ends of a choice. -/
def pI3 (tp : Nat → Nat) (n : Nat) (rs : Nat → Nat → Tk → ER) (d : Nat) (e1 e2 : Ex) (pa : Nat) (t : Tk) : ER := match pSE tp n rs (d + 1) pa 41 t with
  | .error e => .error e
  | .ok q3 => .ok (e1 ++ e2 ++ q3.1 ++ [(3, 0)], q3.2.1, q3.2.2)
def pI2 (tp : Nat → Nat) (n : Nat) (rs : Nat → Nat → Tk → ER) (d : Nat) (e1 : Ex) (pa : Nat) (t : Tk) : ER := match pSE tp n rs (d + 1) pa 44 t with
  | .error e => .error e
  | .ok q2 => pI3 tp n rs d e1 q2.1 q2.2.1 q2.2.2
theorem pIf_eq {rs : Nat → Nat → Tk → ER} {d pa : Nat} : pIf tp n rs d pa t = match pOpn tp n d t with
  | .error e => .error e
  | .ok t1 => match pSE tp n rs (d + 1) pa 44 t1 with
    | .error e => .error e
    | .ok q1 => pI2 tp n rs d q1.1 q1.2.1 q1.2.2 := rfl
theorem bind_le {f : Ex × Nat × Tk → ER} {r1 r : ER} (er : (match r1 with | .error e => .error e | .ok b => f b) = r) (h1 : ∀ b, r1 = .ok b → b.2.2.fr ≤ n ∧ ∀ b', f b = .ok b' → b.2.2.fr ≤ b'.2.2.fr) : eE n (fun x : Ex × Nat × Tk => x.2.2) r1 ≤ eE n (fun x : Ex × Nat × Tk => x.2.2) r := by
  cases r1 with
  | error x =>
    have e9 : r = .error x := er.symm
    rw [e9]; exact Nat.le_refl _
  | ok b =>
    obtain ⟨a1, a2⟩ := h1 b rfl
    rw [eE_ok rfl]
    exact eE_ge a1 (fun b' hb => a2 b' (er.trans hb))
end
