/-! plain: ub -/
set_option maxRecDepth 100000
section
variable {h : AH} {o x z g : Nat} {L : GA} {A : PG} {ind : Nat → Int32} {G : Gv}

/-- rows of a production with shades of its first children. -/
def Gv.shRC (G : Gv) (p : Nat) (f : Nat → Int32) (m : Nat) : Nat → Int32 := fun i =>
  if 8 ≤ i ∧ G.oc p i ∧ G.ins (G.sy p (i / 8)) ≤ i % 8 ∧ i / 8 < m then G.ask p i ||| jshl (jshr (f (i / 8)) (I (4 * (i % 8 - G.ins (G.sy p (i / 8))))) &&& 15) (I (8 * (i / 8))) else G.ask p i
theorem shRC_all (p : Nat) (f : Nat → Int32) (i : Nat) : G.shRC p f (G.kn p + 1) i = G.shRow p f i := by
  unfold Gv.shRC Gv.shRow
  by_cases e : 8 ≤ i ∧ G.oc p i ∧ G.ins (G.sy p (i / 8)) ≤ i % 8
  · rw [if_pos e, if_pos ⟨e.1, e.2.1, e.2.2, by have := e.2.1.2.1; omega⟩]
  · rw [if_neg e, if_neg (fun hh => e ⟨hh.1, hh.2.1, hh.2.2.1⟩)]
theorem shRC_one (p : Nat) (f : Nat → Int32) (i : Nat) : G.shRC p f 1 i = G.ask p i := by
  unfold Gv.shRC
  exact if_neg (fun hh => by have := hh.1; have := hh.2.2.2; omega)
theorem shRC_congr (p : Nat) {f f' : Nat → Int32} {m : Nat} (hf : ∀ a, 1 ≤ a → a < m → f a = f' a) (i : Nat) : G.shRC p f m i = G.shRC p f' m i := by
  unfold Gv.shRC
  by_cases e : 8 ≤ i ∧ G.oc p i ∧ G.ins (G.sy p (i / 8)) ≤ i % 8 ∧ i / 8 < m
  · rw [if_pos e, if_pos e, hf (i / 8) (by have := e.1; omega) e.2.2.2]
  · rw [if_neg e, if_neg e]
theorem shRC_other (p : Nat) (f : Nat → Int32) {c i : Nat} (hi : ¬ (G.oc p i ∧ G.ins (G.sy p c) ≤ i % 8 ∧ i / 8 = c)) : G.shRC p f (c + 1) i = G.shRC p f c i := by
  unfold Gv.shRC
  by_cases e : 8 ≤ i ∧ G.oc p i ∧ G.ins (G.sy p (i / 8)) ≤ i % 8 ∧ i / 8 < c
  · rw [if_pos e, if_pos ⟨e.1, e.2.1, e.2.2.1, by omega⟩]
  · rw [if_neg e]
    refine if_neg (fun hh => ?_)
    by_cases ec : i / 8 = c
    · exact hi ⟨hh.2.1, by rw [← ec]; exact hh.2.2.1, ec⟩
    · exact e ⟨hh.1, hh.2.1, hh.2.2.1, by have := hh.2.2.2; omega⟩
theorem shRC_at (p : Nat) (f : Nat → Int32) {c n : Nat} (h1 : 1 ≤ c) (hc : c ≤ G.kn p) (h3 : G.kn p ≤ 3) (hn : G.ins (G.sy p c) + n < G.cnt (G.sy p c)) (h8 : G.cnt (G.sy p c) ≤ 8) : G.shRC p f (c + 1) (8 * c + G.ins (G.sy p c) + n) = G.ask p (8 * c + G.ins (G.sy p c) + n) ||| jshl (jshr (f c) (I (4 * n)) &&& 15) (I (8 * c)) := by
  have e1 : (8 * c + G.ins (G.sy p c) + n) / 8 = c := by omega
  have e2 : (8 * c + G.ins (G.sy p c) + n) % 8 = G.ins (G.sy p c) + n := by omega
  unfold Gv.shRC
  rw [if_pos ⟨by omega, ⟨by omega, by rw [e1]; exact hc, by rw [e1, e2]; exact hn⟩, by rw [e1, e2]; exact Nat.le_add_right _ _, by rw [e1]; exact Nat.lt_succ_self c⟩, e1, e2, show G.ins (G.sy p c) + n - G.ins (G.sy p c) = n by omega]
theorem shRC_lo (p : Nat) (f : Nat → Int32) {c i : Nat} (hi : i / 8 = c) : G.shRC p f c i = G.ask p i := by
  unfold Gv.shRC
  exact if_neg (fun hh => by have := hh.2.2.2; omega)
theorem ushr15 (a : Int32) {n : Nat} (hn : n ≤ 4) : (jushr a (I (4 * n)) &&& 15) = (jshr a (I (4 * n)) &&& 15) := by
  refine bt_ext (fun k hk => ?_)
  rw [bt_and, bt_and, bt_15]
  by_cases e : k < 4
  · rw [bt_ushr a (by omega), bt_shr a (by omega) (by omega)]
  · simp [e]
theorem cpy0 {f f' : Nat → Int32} {n i : Nat} (hi : i < n) : va_cpy f f' 0 0 n i = f i := by
  unfold va_cpy
  rw [if_pos ⟨by omega, by omega⟩, show 0 + (i - 0) = i by omega]
theorem ShD.keep {W : Nat → Nat → Prop} {c c' : HC} {t : SSt} {r : Nat} {ah : Nat → Nat} (D : ShD c x t r ah) (hl : x + 18 ≤ c.sz) (F : Fr W c c') (h1 : ∀ f, 1404 ≤ f → f ≤ 1406 → ¬ W f x) (h2 : ∀ s, s < 8 → ¬ W 0 (x + 2 + s)) (h3 : ¬ W 0 (x + 16)) (h4 : ¬ W 0 (x + 17)) : ShD c' x t r ah := by
  refine ⟨by rw [F.fi _ _ (by omega) (h1 _ (by decide) (by decide))]; exact D.r4, by rw [F.fi _ _ (by omega) (h1 _ (by decide) (by decide))]; exact D.r5, by rw [F.fi _ _ (by omega) (h1 _ (by decide) (by decide))]; exact D.r6, fun s hs => ?_, fun s k hs hk => ?_, fun s hs => ?_, D.b, D.al, D.rb, D.cb⟩
  · rw [F.ai _ (by omega) h3]; exact D.mn s hs
  · rw [F.ai _ (by omega) (h2 s hs)]; exact D.sh s k hs hk
  · rw [F.ai _ (by omega) h4]; exact D.am s hs

theorem px_goes2 {p : Nat} (hp : p < A.g.nP) {r : Nat} {ah : Nat → Nat} : ∀ (dd c : Nat) (h : AH) (t : SSt) (ch : Nat → Nat) (Q : Int32 → AH → Prop), A.g.kn p + 2 ≤ dd + c → 1 ≤ c → c ≤ A.g.kn p + 1 → ShW h.c o x z L A g ind → ShD h.c x t r ah →
    (∀ i, i < 32 → h.ai (x + 11 + c) i = A.g.shRC p (fun a => t.sh (A.g.sy p a) (ch a)) c i) → (∀ a, 1 ≤ a → a < c → ch a < ah (A.g.sy p a)) →
    (∀ fl h' u, u = A.g.shCh p r ah (A.g.kn p + 1 - c) c ch t → Fr (WS x c) h.c h'.c → h'.sz = h.sz → h'.rc = h.rc → h'.rs = h.rs → ShD h'.c x u r ah → Fg fl t u → Q fl h') → wp_X14_goes_2 dd x (some (L.pa p)) (I c) h Q
  | 0, c, h, t, ch, Q, hd, h1, hc, S, D, hrow, hch, hQ => by omega
  | dd + 1, c, h, t, ch, Q, hd, h1, hc, S, D, hrow, hch, hQ => by
    show wo_X14_goes_2 (fam_X14_goes_2 dd) x (some (L.pa p)) (I c) h Q
    have C := S.cg
    have W := C.W
    have P := C.X.S.pr p hp
    have h3 := W.kn p hp
    have hl := S.l
    have hls : x + 18 ≤ h.sz := hl
    have hnS := W.nS
    have f1 : h.fr 1401 x = some (x + 10) := S.f1
    have f8 : h.fr 1408 x = some o := S.f8
    have fg : h.fr 103 o = some g := S.fg
    have f4 : h.fr 400 g = some L.sl := C.X.O.s1
    have e7 : h.fr 701 (L.pa p) = some (L.ql p) := P.sf
    unfold wo_X14_goes_2
    refine ⟨nn_of rfl P.k, ?_⟩
    rw [adr_some]
    refine px_children (h := h.srm 0 0) W hp P (pu ?_)
    by_cases ec : c ≤ A.g.kn p
    · refine brT ((I_le (by omega) (by omega)).2 ec) ?_
      rw [e7, adr_some]
      refine ⟨nn_of rfl P.k, nn_of rfl P.sl.k, px_sym (h := h.srm 0 0) (k := c) P ec (pu ?_)⟩
      have hs := W.sy p c hp ec
      obtain ⟨s, es⟩ : ∃ s, s = A.g.sy p c := ⟨_, rfl⟩
      rw [← es] at hs ⊢
      have SY := C.X.S.sy s hs
      have hic := W.ic s hs
      have hct := W.cnt s hs
      have hin := W.ins s hs
      have hc8 := W.cnt8 hs
      rw [f8, adr_some, fg, adr_some, f4, adr_some]
      refine ⟨.inr (nn_of rfl SY.k), nn_of rfl S.k, nn_of rfl S.ok, nn_of rfl C.X.O.k, nn_of rfl C.X.O.s2.k, pc_indexOfO (h := h.srm 0 0) C.X.O.s2 (by omega) (.inl SY.k) hs rfl (fun i hi => C.syI hs hi) (pu ?_)⟩
      obtain ⟨Fk, hFk⟩ : ∃ Fk : Nat → SSt → SSt, Fk = fun k t' => A.g.shCh p r ah (A.g.kn p - c) (c + 1) (updN ch c k) t' := ⟨_, rfl⟩
      have Fup : ∀ k t', SUp t' (Fk k t') := fun k t' => by rw [hFk]; exact Gv.shCh_up _ _ _ _ _ _ _
      have esh : A.g.shCh p r ah (A.g.kn p + 1 - c) c ch t = itN Fk (ah s) t := by
        rw [show A.g.kn p + 1 - c = (A.g.kn p - c) + 1 by omega, hFk, es]; rfl
      rw [esh] at hQ
      have e1 : I c + 1 = I (c + 1) := I_add c 1
      have has : ah s ≤ 12 := Nat.le_trans (D.al s) (D.b s)
      refine xlp_cnt (ah s) (fun k q V => ∃ u, u = itN Fk k t ∧ Fr (WS x (c + 1)) h.c V.c ∧ V.sz = h.sz ∧ V.rc = h.rc ∧ V.rs = h.rs ∧ ShD V.c x u r ah ∧ q.2 = I k ∧ Fg q.1 t u) ⟨t, rfl, Fr.refl _, rfl, rfl, rfl, D, rfl, Fg.refl t⟩ ?_
      rintro k q V K hk ⟨u, eu, F, vs, vc, vr, DV, e2, fl⟩ hK
      have SV := S.keep F (fun f a hh => hh.wa)
      have CV := SV.cg
      have SYV := CV.X.S.sy s hs
      have vl : x + 18 ≤ V.sz := SV.l
      have g3 : V.fr 1403 x = some (x + 17) := SV.f3
      have g1 : V.fr 1401 x = some (x + 10) := SV.f1
      have am : V.ai (x + 17) s = I (ah s) := DV.am s (by omega)
      have up : SUp t u := by rw [eu]; exact itN_up Fup k t
      rw [g3, adr_some, I_ni (by omega), am, e2]
      refine ⟨nn_of rfl SV.k, ix_of rfl SV.k5 (by omega) (by decide), ?_⟩
      by_cases ek : k = ah s
      · refine brT (by rw [ek]; exact (I_le (by omega) (by omega)).2 (Nat.le_refl _)) ⟨fl.1, hQ _ V u (by rw [eu, ek]) (F.mono (fun f a _ hh => hh.mono (by omega))) vs vc vr DV fl⟩
      refine brF (fun hh => by have := (I_le (by omega) (by omega)).1 hh; omega) ?_
      have a2c : V.ar (x + 10) c = some (x + 11 + c) := SV.a2 c (by omega)
      have a2d : V.ar (x + 10) (c + 1) = some (x + 11 + (c + 1)) := SV.a2 (c + 1) (by omega)
      have k3c : V.kd (x + 11 + c) = (40, 32) := SV.k3 c (by omega)
      have k3d : V.kd (x + 11 + (c + 1)) = (40, 32) := SV.k3 (c + 1) (by omega)
      rw [g1, adr_some, e1, I_ni (show c < 2147483648 by omega), I_ni (show c + 1 < 2147483648 by omega), a2c, a2d, adr_some, adr_some, show ni 0 = 0 from rfl, show ni 32 = 32 from rfl]
      refine ⟨ix_of rfl SV.k2 (by omega) (by decide), ix_of rfl SV.k2 (by omega) (by decide), ⟨_, _, rfl, rfl, by rw [k3c], by rw [k3d], by decide, by decide, by decide, by rw [k3c]; decide, by rw [k3d]; decide⟩, ?_⟩
      intro h22 e22
      obtain ⟨nO, hnO⟩ : ∃ nO, nO = A.g.cnt s - A.g.ins s := ⟨_, rfl⟩
      obtain ⟨ff, hff⟩ : ∃ ff : Nat → Int32, ff = fun a => u.sh (A.g.sy p a) (updN ch c k a) := ⟨_, rfl⟩
      have hkm : k < u.mn s := Nat.lt_of_lt_of_le (by omega : k < ah s) (DV.al s)
      have F22 : Fr (WS x (c + 1)) V.c h22.c := by rw [e22]; exact (Fr.refl _).wai _ (fun _ => .inr ⟨rfl, by omega, by omega, by omega, by omega, by omega⟩)
      have D22 : ShD h22.c x u r ah := by
        have Fx : Fr (fun f a => f = 0 ∧ a = x + 11 + (c + 1)) V.c h22.c := by rw [e22]; exact (Fr.refl _).wai _ (fun _ => ⟨rfl, rfl⟩)
        exact DV.keep vl Fx (fun f _ _ hh => by omega) (fun s hs hh => by omega) (fun hh => by omega) (fun hh => by omega)
      have row22 : ∀ i, i < 32 → h22.ai (x + 11 + (c + 1)) i = A.g.shRC p ff c i := by
        intro i hi
        have e9 : h22.ai (x + 11 + (c + 1)) = va_cpy (V.ai (x + 11 + c)) (V.ai (x + 11 + (c + 1))) 0 0 32 := by rw [e22]; exact if_pos rfl
        have e8 : V.ai (x + 11 + c) = h.ai (x + 11 + c) := F.ai _ (by show _ < h.sz; omega) (fun hh => by unfold WS at hh; omega)
        rw [e9, cpy0 hi, e8, hrow i hi]
        refine shRC_congr p (fun a a1 a2 => ?_) i
        rw [hff]
        show t.sh (A.g.sy p a) (ch a) = u.sh (A.g.sy p a) (updN ch c k a)
        rw [updN_ne _ _ (show a ≠ c by omega), up.sh _ _ (Nat.lt_of_lt_of_le (hch a a1 a2) (D.al _))]
      refine xlp_cnt nO (fun n q2 T => q2 = I n ∧ Fr (WS x (c + 1)) V.c T.c ∧ T.sz = h.sz ∧ T.rc = h.rc ∧ T.rs = h.rs ∧ ShD T.c x u r ah ∧ ∀ i, i < 32 → T.ai (x + 11 + (c + 1)) i = if 8 * c + A.g.ins s ≤ i ∧ i < 8 * c + A.g.ins s + n then A.g.shRC p ff (c + 1) i else A.g.shRC p ff c i) ⟨rfl, F22, by rw [e22]; exact vs, by rw [e22]; exact vc, by rw [e22]; exact vr, D22, fun i hi => by rw [row22 i hi, if_neg (by omega)]⟩ ?_
      rintro n q2 T K2 hn ⟨eq2, FT, ts, tc, tr, DT, rowT⟩ hK2
      have ST := SV.keep FT (fun f a hh => hh.wa)
      have CT := ST.cg
      have SYT := CT.X.S.sy s hs
      have ei : T.fi 602 (L.sa s) = I (A.g.ins s) := SYT.ins
      have t1 : T.fr 1401 x = some (x + 10) := ST.f1
      have t0 : T.fr 1400 x = some (x + 1) := ST.f0
      have ta0 : T.ar (x + 1) s = some (x + 2 + s) := ST.a0 s (by omega)
      have ta2 : T.ar (x + 10) (c + 1) = some (x + 11 + (c + 1)) := ST.a2 (c + 1) (by omega)
      have tk3 : T.kd (x + 11 + (c + 1)) = (40, 32) := ST.k3 (c + 1) (by omega)
      have tk1 : T.kd (x + 2 + s) = (40, 12) := ST.k1 s (by omega)
      rw [eq2, adr_some]
      refine ⟨nn_of rfl SYT.k, px_count (h := T.srm 0 0) SYT (pu ⟨nn_of rfl SYT.k, ?_⟩)⟩
      rw [ei, I_sub hic, ← hnO]
      by_cases en : n = nO
      · refine brT (by rw [en]; exact (I_le (by omega) (by omega)).2 (Nat.le_refl _)) ⟨nn_of rfl ST.k, ?_⟩
        have rowE : ∀ i, i < 32 → T.ai (x + 11 + (c + 1)) i = A.g.shRC p ff (c + 1) i := by
          intro i hi
          rw [rowT i hi]
          by_cases e : 8 * c + A.g.ins s ≤ i ∧ i < 8 * c + A.g.ins s + n
          · rw [if_pos e]
          · rw [if_neg e]
            refine (shRC_other p ff (fun hh => e ?_)).symm
            obtain ⟨q1, q2, q3⟩ := hh
            have q4 := q1.2.2
            rw [q3, ← es] at q4
            rw [← es] at q2
            omega
        refine px_goes2 hp dd (c + 1) (T.srm 0 0) u (updN ch c k) _ (by omega) (by omega) (by omega) ST DT (fun i hi => ?_) (fun a a1 a2 => ?_) ?_
        · rw [← hff]; exact rowE i hi
        · by_cases e : a = c
          · rw [e, updN_same, ← es]; omega
          · rw [updN_ne _ _ e]; exact hch a a1 (by omega)
        · intro fl2 h' u' eu' F' s' c' r' D' g' h34 e34
          have e9 : u' = Fk k u := by
            rw [eu', hFk, show A.g.kn p + 1 - (c + 1) = A.g.kn p - c by omega]
          have F3 : Fr (WS x (c + 1)) h.c h34.c := by rw [e34]; exact (F.trans FT).trans F'
          refine hK _ _ (by omega) ⟨u', by rw [e9, eu]; rfl, F3, by rw [e34]; exact s'.trans ts, by rw [e34]; exact tc, by rw [e34]; exact tr, by rw [e34]; exact D', I_add k 1, fl.trans g' ?_⟩
          rw [e9]
          exact (Fup k u).mu
      · have hn' : n < nO := by omega
        refine brF (fun hh => by have := (I_le (by omega) (by omega)).1 hh; omega) ?_
        have ev : (8 : Int32) * I c + I (A.g.ins s) + I n = I (8 * c + A.g.ins s + n) := by
          rw [show (8 : Int32) * I c = I (8 * c) from I_mul 8 c, I_add, I_add]
        have ta1 : T.ai (x + 2 + s) k = u.sh s k := DT.sh s k (by omega) hkm
        rw [ev, t1, adr_some, t0, adr_some, ta2, adr_some, ta0, adr_some, I_ni (show 8 * c + A.g.ins s + n < 2147483648 by omega), I_ni (show k < 2147483648 by omega), ta1]
        refine ⟨nn_of rfl ST.k, ix_of rfl ST.k2 (by omega) (by decide), ix_of rfl tk3 (by omega) (by decide), ix_of rfl ST.k0 (by omega) (by decide), ix_of rfl tk1 (by omega) (by decide), ix_of rfl tk3 (by omega) (by decide), ?_⟩
        intro h36 e36
        have F36 : Fr (WS x (c + 1)) T.c h36.c := by rw [e36]; exact (Fr.refl _).sai _ _ (fun _ => .inr ⟨rfl, by omega, by omega, by omega, by omega, by omega⟩)
        have D36 : ShD h36.c x u r ah := by
          have Fx : Fr (fun f a => f = 0 ∧ a = x + 11 + (c + 1)) T.c h36.c := by rw [e36]; exact (Fr.refl _).sai _ _ (fun _ => ⟨rfl, rfl⟩)
          exact DT.keep ST.l Fx (fun f _ _ hh => by omega) (fun s hs hh => by omega) (fun hh => by omega) (fun hh => by omega)
        refine hK2 _ _ hn' ⟨I_add n 1, FT.trans F36, by rw [e36]; exact ts, by rw [e36]; exact tc, by rw [e36]; exact tr, D36, fun i hi => ?_⟩
        rw [e36, sai_ai, if_pos rfl]
        by_cases e : i = 8 * c + A.g.ins s + n
        · rw [e, updN_same, if_pos ⟨by omega, by omega⟩, rowT _ (by omega), if_neg (by omega), shRC_lo p ff (by omega)]
          have q := shRC_at (G := A.g) p ff (c := c) (n := n) h1 ec h3 (by rw [← es]; omega) (by rw [← es]; exact hc8)
          rw [← es] at q
          rw [q, show (4 : Int32) * I n = I (4 * n) from I_mul 4 n, show (8 : Int32) * I c = I (8 * c) from I_mul 8 c, ushr15 _ (by omega)]
          have e5 : ff c = u.sh s k := by
            rw [hff]
            show u.sh (A.g.sy p c) (updN ch c k c) = _
            rw [updN_same, ← es]
          rw [e5]
        · rw [updN_ne _ _ e, rowT i hi]
          by_cases e2 : 8 * c + A.g.ins s ≤ i ∧ i < 8 * c + A.g.ins s + n
          · rw [if_pos e2, if_pos ⟨e2.1, by omega⟩]
          · rw [if_neg e2, if_neg (by omega)]
    · have ec2 : c = A.g.kn p + 1 := by omega
      refine brF (fun hh => by have := (I_le (by omega) (by omega)).1 hh; omega) ⟨nn_of rfl S.k, ?_⟩
      have a2c : h.ar (x + 10) c = some (x + 11 + c) := S.a2 c (by omega)
      have k3c : h.kd (x + 11 + c) = (40, 32) := S.k3 c (by omega)
      rw [f1, adr_some, I_ni (by omega), a2c]
      refine ⟨ix_of rfl S.k2 (by omega) (by decide), px_closed (h := h.srm 0 0) k3c (by decide) (by decide) rfl (fun h' F' s' c' r' ai' => ?_)⟩
      intro h40 e40
      have F40 : Fr (fun f b => f = 0 ∧ b = x + 11 + c) h.c h40.c := by rw [e40]; exact F'
      have S40 := S.keep F40 (fun f a hh => .inr (.inl ⟨hh.1, by omega, by omega⟩))
      have D40 : ShD h40.c x t r ah := D.keep hl F40 (fun f _ _ hh => by omega) (fun s hs hh => by omega) (fun hh => by omega) (fun hh => by omega)
      have s40 : h40.sz = h.sz := by rw [e40]; exact s'
      have row40 : ∀ i, i < 32 → h40.ai (x + 11 + c) i = clo (A.g.shRow p (fun a => t.sh (A.g.sy p a) (ch a))) i := by
        intro i hi
        have e9 : h40.ai (x + 11 + c) = clo (h.ai (x + 11 + c)) := by rw [e40]; exact ai'
        rw [e9]
        refine clo_congr (fun j hj => ?_) hi
        rw [hrow j hj, ec2]
        exact shRC_all p _ j
      refine ⟨nn_of rfl S40.k, px_comes (h := h40.srm 0 0) S40 D40 hp (S40.k3 c (by omega)) (by show x + 11 + c < h40.sz; omega) row40 (fun fl h2 u eu F2 s2 c2 r2 D2 g2 => ?_)⟩
      intro h44 e44
      refine ⟨g2.1, hQ fl h44 u ?_ ?_ (by rw [e44]; exact s2.trans s40) (by rw [e44, e40]; rfl) (by rw [e44, e40]; rfl) (by rw [e44]; exact D2) g2⟩
      · rw [eu, show A.g.kn p + 1 - c = 0 by omega]; rfl
      · rw [e44]
        exact (F40.mono (fun f a _ hh => .inr ⟨hh.1, by omega, by omega, by omega, by omega, by omega⟩)).trans (F2.mono (fun f a _ hh => WS.mono hh (by omega)))
end
