/-! BASE 5: casts of arrays, the inherited field, constants, clones, class objects -/
set_option maxRecDepth 100000
theorem nn_kd {h h1 : AH} {r : Option Nat} {t : Nat} (e : h1.kd = h.kd) (hn : nn h r t) : nn h1 r t := by
  obtain ⟨a, h2, h3⟩ := hn
  exact ⟨a, h2, by rw [e]; exact h3⟩
theorem nn_eq {h h1 h2 : AH} {r : Option Nat} {t : Nat} (e : h1 = h2) (hn : nn h r t) (hk : h2.kd = h.kd) : nn h1 r t := nn_kd (by rw [e]; exact hk) hn
section ROWS14
variable {l : Launch} {D : va_G} {s0 : S0} {cc : ByteArray} {own mn : String} {nL fr lw mc ms : Nat} {ret : Option FieldType} {Q : Option SV → AH → Prop} {K : KT}
variable {pc : Nat} {L : List (Nat × SV)} {st : List SV} {h : AH}
theorem x_cellA {s : State} {H : Heap} (hds : DS s0 s) (hG : G0 D s0) (hR : Rp D H h) {a t : Nat} {nm : String} {ty : FieldType} (hkd : (h.kd a).1 = t) (hc : AR t = some ty) (hra : ∀ (U : State) (cA : ClassId), va_RA U cA ty → U.vm.findClass nm = some cA) (hne : NI ty) : ∃ cellB : Cell, H[a]? = some cellB ∧ cellB.vm.isStatics = false ∧ s.vm.findClass nm = some cellB.cls := by
  subst hkd
  obtain ⟨cell, hcell, g1, g2, g3, g4, -⟩ := (hR.2.2.2 a).2 _ hc
  refine ⟨cell, hcell, ?_, ?_⟩
  · cases hv : cell.vm <;> first | rfl | exact absurd hv (g4 _)
  · rw [g1, vp_cell_cls]
    exact hra s _ ((hds.ar hG hc).2 hne)
theorem x_castA (C : Cx l D s0 cc own mn nL fr lw mc ms ret Q K) (t : Nat) {index : Nat} {nm : String} {ty : FieldType} {r : Option Nat} (nxt : Nat) (d : decode cc pc = .ok (.checkcast index, 3)) (hn : pc + 3 = nxt) (hc : AR t = some ty) (hra : ∀ (U : State) (cA : ClassId), va_RA U cA ty → U.vm.findClass nm = some cA) (q1 : Cond.classLink own index nm ∈ lw_all) (hr : nn h r t) (k : K nxt L (vA r :: st) h) (hne : NI ty := by intro q; cases q) : K pc L (vA r :: st) h := by
  obtain ⟨p, e, R, s, m, args, below, meth, c, Z, hx, hb, hml, ho, hts, hds, hG, hRm, hrr, hz, rfl⟩ := C
  subst hn
  intro H locs ls hl hR hlo hS h1 h2
  obtain ⟨a, rfl, hkd⟩ := hr
  obtain ⟨cell, g1, g2, g3⟩ := x_cellA hds hG hR hkd hc hra hne
  intro T hT X
  obtain ⟨vm', X', stp⟩ := X.checkcastYes hx ho (hts _ q1) (by rw [hT]; exact g1) g2 g3 (va_asg _ _) (g := F0 m pc ls (.ref a :: st.map tV)) rfl rfl (by rw [hb]; exact d)
  obtain ⟨t, a1, b1⟩ := (k H locs ls hl hR hlo hS h1 h2) (T.setVm vm') hT X'
  exact ⟨t, stp t a1, b1⟩
theorem x_instA (C : Cx l D s0 cc own mn nL fr lw mc ms ret Q K) (t : Nat) {index : Nat} {nm : String} {ty : FieldType} {r : Option Nat} (nxt : Nat) (d : decode cc pc = .ok (.instanceof index, 3)) (hn : pc + 3 = nxt) (hc : AR t = some ty) (hra : ∀ (U : State) (cA : ClassId), va_RA U cA ty → U.vm.findClass nm = some cA) (q1 : Cond.classLink own index nm ∈ lw_all) (hr : nn h r t) (k : K nxt L (vI 1 :: st) h) (hne : NI ty := by intro q; cases q) : K pc L (vA r :: st) h := by
  obtain ⟨p, e, R, s, m, args, below, meth, c, Z, hx, hb, hml, ho, hts, hds, hG, hRm, hrr, hz, rfl⟩ := C
  subst hn
  intro H locs ls hl hR hlo hS h1 h2
  obtain ⟨a, rfl, hkd⟩ := hr
  obtain ⟨cell, g1, g2, g3⟩ := x_cellA hds hG hR hkd hc hra hne
  intro T hT X
  obtain ⟨vm', X', stp⟩ := X.instanceofYes hx ho (hts _ q1) (by rw [hT]; exact g1) g2 g3 (va_asg _ _) (g := F0 m pc ls (.ref a :: st.map tV)) rfl rfl (by rw [hb]; exact d)
  obtain ⟨t, a1, b1⟩ := (k H locs ls hl hR hlo hS h1 h2) (T.setVm vm') hT X'
  exact ⟨t, stp t a1, b1⟩
/-- getfield of a field that is inherited, under the name of the class below -/
theorem x_getS (C : Cx l D s0 cc own mn nL fr lw mc ms ret Q K) (t k : Nat) {index pc' : Nat} {i : String × u_T × Nat × (Nat → FieldType)} {CC : String} {v : SV} {r : Option Nat} (d : decode cc pc = .ok (.getfield index, 3)) (hpc : pc + 3 = pc') (hc : CL t = some i) (hk : Nat.blt k i.2.2.1 = true) (hlink : Cond.fieldLink own index CC (i.2.1 k).2.1 (i.2.1 k).2.2.1 ∈ lw_all) (hsm : Cond.sameField CC (i.2.1 k).1 (i.2.1 k).2.1 (i.2.1 k).2.2.1 ∈ lw_all)
    (hv : fval (i.2.2.2 k) h (100 * t + k) (adr r) = v) (hn : nn h r t) (kk : K pc' L (v :: st) h) : K pc L (vA r :: st) h := by
  obtain ⟨p, e, R, s, m, args, below, meth, c, Z, hx, hb, hml, ho, hts, hds, hG, hRm, hr, hz, rfl⟩ := C
  subst hpc; subst hv
  obtain ⟨a, rfl, hkd⟩ := hn
  intro H locs ls hl hR hlo hS h1 h2
  have hk := blt_lt hk
  subst hkd
  obtain ⟨cell, q1, q2, q3, q4⟩ := (hR.2.2.2 a).1 i hc
  obtain ⟨hSl, hfc, kC, hkC, hkind⟩ := hds.kn hG hc
  obtain ⟨cf, kf, fi, f, hi, hsl⟩ := hSl k hk
  refine W.getf hx hb ho (hts _ hlink) (u_same (hts _ hsm) _ hi) (u_facts hfc hkC (u_lays hts (CL_ok _ i hc).1 hk) hi).1 q1 q3.1 (v := tV (fval (i.2.2.2 k) h (100 * (h.kd a).1 + k) a)) ?_ rfl rfl d (kk H locs ls hl hR hlo hS h1 h2)
  rw [hsl]; exact q4 k hk

theorem x_putGS (C : Cx l D s0 cc own mn nL fr lw mc ms ret Q K) (t k : Nat) {index pc' : Nat} {i : String × u_T × Nat × (Nat → FieldType)} {CC : String} {v : SV} {r : Option Nat} {h' : AH} (d : decode cc pc = .ok (.putfield index, 3)) (hpc : pc + 3 = pc') (hc : CL t = some i) (hk : Nat.blt k i.2.2.1 = true) (hfin : (i.2.1 k).2.2.2 = false) (hlink : Cond.fieldLink own index CC (i.2.1 k).2.1 (i.2.1 k).2.2.1 ∈ lw_all) (hsm : Cond.sameField CC (i.2.1 k).1 (i.2.1 k).2.1 (i.2.1 k).2.2.1 ∈ lw_all)
    (hP : Pt h h' (adr r) t k i.2.2.2 v) (hnr : narrow (i.2.2.2 k) (tV v) = tV v) (hfit : fits (i.2.2.2 k) (tV v) = true) (hn : nn h r t) (hro : ROk t = false ∨ h.lo ≤ adr r) (kk : K pc' L st h') : K pc L (v :: vA r :: st) h := by
  obtain ⟨p, e, R, s, m, args, below, meth, c, Z, hx, hb, hml, ho, hts, hds, hG, hRm, hr, hz, rfl⟩ := C
  subst hpc
  obtain ⟨a, rfl, hkd⟩ := hn
  intro H locs ls hl hR hlo hS h1 h2
  have hk := blt_lt hk
  subst hkd
  have hap := x_apart hts hds hG hc
  obtain ⟨cell, q1, q2, q3, q4⟩ := (hR.2.2.2 a).1 i hc
  obtain ⟨hSl, hfc, kC, hkC, hkind⟩ := hds.kn hG hc
  obtain ⟨cf, kf, fi, f, hi, hsl⟩ := hSl k hk
  obtain ⟨o1, o2, o3⟩ := CL_ok _ i hc
  have hlay := hts _ (o1 _ (u_in_lay hk))
  unfold u_lay at hlay
  rw [if_neg (by rw [hfin]; decide)] at hlay
  have hst := (u_facts hfc hkC (u_lays hts o1 hk) hi).1
  have h6 := u_store hfc hkC hkind hlay hi (o2 k hk) hnr hfit
  have hloa : Lo s0 a := by
    refine hR.free hlo ?_ ?_
    · first | exact CL_ne hc | exact AR_ne hA | exact AR_ne hA1
    · rcases hro with q | q
      · exact hR.2.2.1 a q
      · exact q
  obtain ⟨hC, hP1, hP2⟩ := hP
  replace q3 := q3.2.2 (by rw [lo_of hlo]; exact hloa.1)
  refine W.putK hx hb (f := f) ⟨ho, hts _ hlink, ⟨_, _, _, u_same (hts _ hsm) _ hi⟩, hst⟩ (by rw [q2]; exact h6) q1 q3 (by rw [hsl]; exact k2_hasslot (q4 k hk)) rfl rfl d fun H' e1 e2 e3 => ?_
  rw [hsl] at e1
  have kz := kk H' (locs ++ [⟨a, f.slot⟩]) ls hl (hR.ch hC e2 e3 (cok_put hc hk hap hC.1 q2 q3 q4 e1 hP1 hP2)) (by rw [hC.2.2.1]; exact hlo) (hS.put e2 e3 hloa) (by rw [hC.2.2.2.1]; exact h1) (by rw [hC.2.2.2.2.1]; exact h2)
  rw [hC.2.2.2.1, hC.2.2.2.2.1] at kz
  exact kz
theorem x_pIS (C : Cx l D s0 cc own mn nL fr lw mc ms ret Q K) (t k : Nat) {index : Nat} (nxt : Nat) {i : String × u_T × Nat × (Nat → FieldType)} {CC : String} {x : Int32} {r : Option Nat} (d : decode cc pc = .ok (.putfield index, 3)) (hpc : pc + 3 = nxt) (hc : CL t = some i) (hk : Nat.blt k i.2.2.1 = true) (hfin : (i.2.1 k).2.2.2 = false) (hlink : Cond.fieldLink own index CC (i.2.1 k).2.1 (i.2.1 k).2.2.1 ∈ lw_all) (hsm : Cond.sameField CC (i.2.1 k).1 (i.2.1 k).2.1 (i.2.1 k).2.2.1 ∈ lw_all)
    (hty : ∀ (h : AH) (F a : Nat), fval (i.2.2.2 k) h F a = vI (h.fi F a)) (hnr : narrow (i.2.2.2 k) (.int x) = (.int x)) (hfit : fits (i.2.2.2 k) (.int x) = true) (hn : nn h r t) (hro : ROk t = false ∨ h.lo ≤ adr r) (kk : ∀ h1, h1 = h.sfi (100 * t + k) (adr r) x → K nxt L st h1) : K pc L (vI x :: vA r :: st) h :=
  x_putGS C t k d hpc hc hk hfin hlink hsm (Pt.I hty) hnr hfit hn hro (kk _ rfl)


theorem x_clone (C : Cx l D s0 cc own mn nL fr lw mc ms ret Q K) (t : Nat) {index : Nat} {nm : String} {ty : FieldType} {r : Option Nat} (nxt : Nat) (st : List SV) (d : decode cc pc = .ok (.invokevirtual index, 3)) (hn : pc + 3 = nxt) (hc : AR t = some ty) (hcI : ∀ (h : AH) (a : Nat), acont ty h a = ((h.kd a).2, .inl (h.ai a))) (hf : ty ≠ .float ∧ ty ≠ .double) (hra : ∀ (U : State) (cA : ClassId), va_RA U cA ty → U.vm.findClass nm = some cA)
    (q1 : Cond.methodLink own index ⟨nm, "clone", "()Ljava/lang/Object;"⟩ ∈ lw_all) (q2 : Cond.sameMethod nm "java/lang/Object" "clone" "()Ljava/lang/Object;" ∈ lw_all) (q3 : Cond.native ⟨"java/lang/Object", "clone", "()Ljava/lang/Object;"⟩ ∈ lw_all) (q4 : Cond.instanceMethod ⟨"java/lang/Object", "clone", "()Ljava/lang/Object;"⟩ ∈ lw_all) (q5 : Cond.selects nm ⟨nm, "clone", "()Ljava/lang/Object;"⟩ ⟨"java/lang/Object", "clone", "()Ljava/lang/Object;"⟩ ∈ lw_all) (q6 : Cond.castable nm "java/lang/Cloneable" ∈ lw_tbl)
    (hroom : Nat.ble 1 fr = true ∧ Nat.ble ((st.map wd).sum + 14) lw = true) (hr : nn h r t) (hfit : ∀ i, i < (h.kd (adr r)).2 → fits ty (.int (h.ai (adr r) i)) = true) (hnr : nr h (h.kd (adr r)).2)
    (k : ∀ h1, h1 = (h.new t (h.kd (adr r)).2 (h.kd (adr r)).2).wai h.sz (h.ai (adr r)) → K nxt L (vA (some h.sz) :: st) h1) (hne : NI ty := by intro q; cases q) : K pc L (vA r :: st) h := by
  obtain ⟨p, e, R, s, m, args, below, meth, c, Z, hx, hb, hml, ho, hts, hds, hG, ⟨rf1, rf2, rf3, rf4⟩, hrr, hz, rfl⟩ := C
  subst hn
  intro H locs ls hl hR hlo hS h1 h2
  obtain ⟨a, rfl, hkd⟩ := hr
  have hadr : adr (some a) = a := rfl
  rw [hadr] at k hfit hnr
  obtain ⟨hr1, hr2⟩ := hnr
  generalize hn0 : (h.kd a).2 = n at k hfit hr2
  have hAr := hds.ar hG hc
  have hnm := hra s _ (hAr.2 hne)
  obtain ⟨cell, hcell, w1, w2, w3, w4, -⟩ : aO h.lo a H (vp_cell (D.1 t) (n, .inl (h.ai a))) := by
    have := (hR.2.2.2 a).2 ty (by rw [hkd]; exact hc)
    rw [hcI, hn0, hkd] at this
    exact this
  have hlosz : h.lo ≤ h.sz := by rw [lo_of hlo, ← hR.1]; exact Nat.le_trans hds.2.1 hS.1
  obtain ⟨b0, hw0, -⟩ := hG.1
  have hcl : va_Nw (.castable nm "java/lang/Cloneable") s := va_Nw.warmC hds.1 (va_Nw.of rfl (hw0 _ q6))
  obtain ⟨c0, t0', f1, f2, f3⟩ := Cond.castable_spec (va_Nw.use (A := args) rfl hcl)
  cases hnm.symm.trans f1
  intro T hT X
  have hcellT : T.heap[a]? = some cell := by rw [hT]; exact hcell
  obtain ⟨-, kA, hkA, comp, hkind⟩ := State.isArrayOf_alike X.warmed.alike (hAr.1 0 (fun _ => .null))
  obtain ⟨-, kS, hkS, compS, hkindS⟩ := hAr.1 0 (fun _ => .null)
  have hsz : cell.slots.size = n := by rw [w2]; exact arrV_size _ _ _
  have hcellE : ({ cls := cell.cls, slots := cell.slots } : Cell) = vp_cell (D.1 t) (n, .inl (h.ai a)) := by rw [w1, w2]; rfl
  have hl1 := Nat.le_of_ble_eq_true hroom.2
  obtain ⟨vm', X', stp⟩ := X.cloneArray hx ho (hts _ q1) (hts _ q2) (hts _ q3) (hts _ q4) (hts _ q5) (a := a) (cell := cell) hcellT w4 w3 (by rw [show cell.cls = D.1 t from w1]; exact hnm) f2 (by rw [show cell.cls = D.1 t from w1]; exact f3)
    (fun i v hv => by
      have hk' : T.vm.classes[D.1 t]? = some kA := hkA
      have hlt : i < n := by
        rcases Nat.lt_or_ge i n with q | q
        · exact q
        · rw [Array.getElem?_eq_none (by rw [hsz]; exact q)] at hv; cases hv
      have hv2 : (arrV (D.1 t) n (fun j => .int (h.ai a j))).slots[i]? = some v := by rw [w2] at hv; exact hv
      rw [arrV_read _ _ hlt] at hv2
      cases hv2
      have hcc : cell.cls = D.1 t := w1
      rw [hcc]
      simpa [State.fitsSlot, State.slotType?, hk', hkind] using hfit i hlt)
    (g := F0 m pc ls (.ref a :: st.map tV)) rfl (by rw [hml]; exact hl.1) rfl (by rw [hb]; exact d) (by rw [rf1]; exact Nat.le_of_ble_eq_true hroom.1) (by show 2 * 0 + _ + 14 ≤ _; rw [sum_tV, rf2]; omega) (by rw [rf3]; omega) (by rw [hsz, rf4]; omega) (hloader := Vm.clonesLoader_of_array (show s.vm.classes[cell.cls]? = some kS by rw [show cell.cls = D.1 t from w1]; exact hkS) hkindS)
  rw [hcellE, hsz] at X'
  generalize hH1 : H.push (vp_cell (D.1 t) (n, .inl (h.ai a))) = H1
  have z1 : H1.size = H.size + 1 := by rw [← hH1, Array.size_push]
  have e1 : H1[H.size]? = some (vp_cell (D.1 t) (n, .inl (h.ai a))) := by rw [← hH1, Array.getElem?_push_size]
  have o1 : ∀ q : Nat, q < H.size → H1[q]? = H[q]? := fun q hq => by rw [← hH1, Array.getElem?_push, if_neg (Nat.ne_of_lt hq)]
  generalize hH2 : H.push (arrV (D.1 t) n (fun _ => defaultValue ty)) = H2
  have z2 : H2.size = H.size + 1 := by rw [← hH2, Array.size_push]
  have e2 : H2[H.size]? = some (arrV (D.1 t) n (fun _ => defaultValue ty)) := by rw [← hH2, Array.getElem?_push_size]
  have o2 : ∀ q : Nat, q < H.size → H2[q]? = H[q]? := fun q hq => by rw [← hH2, Array.getElem?_push, if_neg (Nat.ne_of_lt hq)]
  have hR2 : Rp D H2 (h.new t n n) := hR.new z2 o2 hlosz (by
    have ek : (h.new t n n).kd h.sz = (t, n) := if_pos rfl
    refine ⟨fun i' hi' => ?_, fun ty' hty => ?_⟩
    · rw [ek] at hi'
      rw [AR_CL hc] at hi'; cases hi'
    · rw [ek] at hty ⊢
      cases hc.symm.trans hty
      refine aO.of ?_
      rw [acont_new _ hf, ← hR.1]
      exact e2)
  have hR1 : Rp D H1 ((h.new t n n).wai h.sz (h.ai a)) := hR2.ch Ch.wai (by rw [z1, z2]) (fun q hq => by
      rcases Nat.lt_trichotomy q H.size with g | g | g
      · rw [o1 q g, o2 q g]
      · exact absurd (g.trans hR.1) hq
      · rw [Array.getElem?_eq_none (by omega), Array.getElem?_eq_none (by omega)]) (by
    have ek : ((h.new t n n).wai h.sz (h.ai a)).kd h.sz = (t, n) := if_pos rfl
    refine ⟨fun i' hi' => ?_, fun ty' hty => ?_⟩
    · rw [ek] at hi'
      rw [AR_CL hc] at hi'; cases hi'
    · rw [ek] at hty ⊢
      cases hc.symm.trans hty
      refine aO.of ?_
      rw [hcI, ek, wai_at, ← hR.1]
      exact e1)
  have kz := k _ rfl H1 locs ls hl hR1 hlo ⟨Nat.le_trans hS.1 (by rw [z1]; omega), fun y g1 g2 => (o1 y (Nat.lt_of_lt_of_le g1 hS.1)).trans (hS.2.1 y g1 g2), hS.2.2⟩ (by show h.rc - 1 ≤ mc; omega) (by show h.rs - n ≤ ms; omega)
  have e3 : mc - (h.rc - 1) = mc - h.rc + 1 := by omega
  have e4 : ms - (h.rs - n) = ms - h.rs + n := by omega
  have kz' : W p l e R s m args below meth c H1 locs (mc - (h.rc - 1)) (ms - (h.rs - n)) Z (F0 m (pc + 3) ls (Value.ref h.sz :: st.map tV)) := kz
  rw [e3, e4] at kz'
  obtain ⟨t9, b1, b2⟩ := kz' ((T.setVm vm').pushCell (vp_cell (D.1 t) (n, .inl (h.ai a)))) (by rw [← hH1, ← hT]; rfl) X'
  refine ⟨t9, stp t9 ?_, b2⟩
  rw [hcellE, hT, hR.1]
  exact b1
theorem ldcwString {p : Program} {l : Launch} {e : Env} {R : Room} {s : State} {m : MethodId} {args : Array Value} {below : List Frame} {meth : Method} {c : Code} {T : State} {locs : List Loc} {cells slots : Nat}
    (X : Stand p l e R s m args below meth c T locs cells slots) (hexec : p.tables.exec = Jvm.exec) {own text : String} {index : Nat} {a : Addr} (hown : s.vm.findClass own = some m.cls)
    (hconst : (Cond.stringRef own index text).before args s = true) (hev : (Term.string own index).eval args s none [] s = some (.ref a)) {g : JFrame} (hg : g.method = m) (hdg : decode c.code g.pc = .ok (.ldc_w index, 3)) :
    ∀ target, Steps p.tables e below (T.setTop { g with pc := g.pc + 3, stack := .ref a :: g.stack }) target → Steps p.tables e below (T.setTop g) target := by
  obtain ⟨k, cf, i, a', hk, hcf, hcp, -, hr, hev'⟩ := Cond.stringRef_spec hown hconst
  cases hev.symm.trans hev'
  obtain ⟨k', hk', he⟩ := X.warmed.alike.2.2 _ _ hk
  have hr' : k'.resolved[index]? = some (some (.string a)) := by
    rcases X.warmed.entry hk hk' index with h | ⟨h, -⟩
    · rw [h]; exact hr
    · rw [hr] at h; cases h
  intro target hrest
  subst hg
  jvm_step X.here [hexec, hdg, ldc_w.wp_string (e := e) (s := T) (f := g) X.here.top hk' (by rw [he]; exact hcf) hcp hr']
  exact hrest
theorem x_ldcSW (C : Cx l D s0 cc own mn nL fr lw mc ms ret Q K) (j : Nat) {index : Nat} (nxt : Nat) {tx : String} (d : decode cc pc = .ok (.ldc_w index, 3)) (hn : pc + 3 = nxt) (hj : Nat.blt j 600 = true) (hc : ctm j = .string own index) (q1 : Cond.stringRef own index tx ∈ lw_tbl) (hex : Cond.exactly (.string own index) "java/lang/String" ∈ flatC (Jvm.Cond.and given_1 narrow_1)) (k : K nxt L (vA (sref (h.cs j)) :: st) h) : K pc L st h := by
  obtain ⟨p, e, R, s, m, args, below, meth, c, Z, hx, hb, hml, ho, hts, hds, hG, hRm, hr, hz2, rfl⟩ := C
  subst hn
  intro H locs ls hl hR hlo hS h1 h2
  obtain ⟨b0, hw0, hg⟩ := hG.1
  obtain ⟨a, c0, cA, kA, w1, -⟩ := Cond.exactly_spec (args := #[Value.ref b0]) (first := s0.1) (o := none) (s := s0.1) (idx := []) (t := .string own index) (cls := "java/lang/String") (flat_of_before _ hg _ hex)
  have hR0 : vk_R own index tx a s0.1 := vk_R.of (hw0 _ q1) w1
  have hcs : h.cs j = a + 1 := by
    show h.bs.2 j = _
    rw [hlo]
    show csOf s0 j = _
    unfold csOf
    rw [if_pos (blt_lt hj), hc, hR0.2]
    rfl
  have kz := k H locs ls hl hR hlo hS h1 h2
  rw [hcs] at kz
  have hR1 := hR0.warm hds.1
  intro T hT X
  obtain ⟨t, a1, b1⟩ := kz T hT X
  exact ⟨t, ldcwString X hx ho (text := tx) (a := a) hR1.1 hR1.2 (g := F0 m pc ls (st.map tV)) rfl (by rw [hb]; exact d) t a1, b1⟩
end ROWS14
theorem z_cs {D : va_G} {s0 : S0} (hG : G0 D s0) : va_Z "java/lang/String" "COMPACT_STRINGS" "Z" (.int 1) (Lo s0) s0.1 s0.1.heap := z_int hG q335 q163 (by decide +kernel)
theorem z_ad {D : va_G} {s0 : S0} (hG : G0 D s0) : va_Z "java/lang/StringUTF16" "$assertionsDisabled" "Z" (.int 1) (Lo s0) s0.1 s0.1.heap := z_int hG q434 q164 (by decide +kernel)
theorem z_hi {D : va_G} {s0 : S0} (hG : G0 D s0) : va_Z "java/lang/StringUTF16" "HI_BYTE_SHIFT" "I" (.int 0) (Lo s0) s0.1 s0.1.heap := z_int hG q436 q164 (by decide +kernel)
theorem z_lob {D : va_G} {s0 : S0} (hG : G0 D s0) : va_Z "java/lang/StringUTF16" "LO_BYTE_SHIFT" "I" (.int 8) (Lo s0) s0.1 s0.1.heap := z_int hG q438 q164 (by decide +kernel)
theorem z_high {D : va_G} {s0 : S0} (hG : G0 D s0) : va_Z "java/lang/Integer$IntegerCache" "high" "I" (.int 127) (Lo s0) s0.1 s0.1.heap := z_int hG q1568 q194 (by decide +kernel)
theorem z_cache {D : va_G} {s0 : S0} (hG : G0 D s0) : va_Z "java/lang/Integer$IntegerCache" "cache" "[Ljava/lang/Integer;" (va_rf (sref (csOf s0 500))) (Lo s0) s0.1 s0.1.heap := z_ref hG 500 rfl rfl q1570 q194 (by first | exact Or.inl (by decide +kernel) | exact Or.inr ⟨_, by decide +kernel⟩)
theorem z_dce {D : va_G} {s0 : S0} (hG : G0 D s0) : va_Z "java/util/ArrayList" "DEFAULTCAPACITY_EMPTY_ELEMENTDATA" "[Ljava/lang/Object;" (va_rf (sref (csOf s0 502))) (Lo s0) s0.1 s0.1.heap := z_ref hG 502 rfl rfl q990 q175 (by first | exact Or.inl (by decide +kernel) | exact Or.inr ⟨_, by decide +kernel⟩)
theorem z_ee {D : va_G} {s0 : S0} (hG : G0 D s0) : va_Z "java/util/ArrayList" "EMPTY_ELEMENTDATA" "[Ljava/lang/Object;" (va_rf (sref (csOf s0 503))) (Lo s0) s0.1 s0.1.heap := z_ref hG 503 rfl rfl q648 q175 (by first | exact Or.inl (by decide +kernel) | exact Or.inr ⟨_, by decide +kernel⟩)
theorem z_us {D : va_G} {s0 : S0} (hG : G0 D s0) : va_Z "java/lang/Throwable" "UNASSIGNED_STACK" "[Ljava/lang/StackTraceElement;" (va_rf (sref (csOf s0 504))) (Lo s0) s0.1 s0.1.heap := z_ref hG 504 rfl rfl q742 q176 (by first | exact Or.inl (by decide +kernel) | exact Or.inr ⟨_, by decide +kernel⟩)
theorem z_ss {D : va_G} {s0 : S0} (hG : G0 D s0) : va_Z "java/lang/Throwable" "SUPPRESSED_SENTINEL" "Ljava/util/List;" (va_rf (sref (csOf s0 505))) (Lo s0) s0.1 s0.1.heap := z_ref hG 505 rfl rfl q744 q176 (by first | exact Or.inl (by decide +kernel) | exact Or.inr ⟨_, by decide +kernel⟩)
theorem z_sf {D : va_G} {s0 : S0} (hG : G0 D s0) : va_Z "jdk/internal/util/Preconditions" "SIOOBE_FORMATTER" "Ljava/util/function/BiFunction;" (va_rf (sref (csOf s0 506))) (Lo s0) s0.1 s0.1.heap := z_ref hG 506 rfl rfl q426 q170 (by first | exact Or.inl (by decide +kernel) | exact Or.inr ⟨_, by decide +kernel⟩)
theorem sx_0 : Cond.exactly (.string "RuleShuttle$Reader" 15) "java/lang/String" ∈ flatC (Jvm.Cond.and given_1 narrow_1) := by decide +kernel
theorem sx_1 : Cond.exactly (.string "RuleShuttle$Reader" 63) "java/lang/String" ∈ flatC (Jvm.Cond.and given_1 narrow_1) := by decide +kernel
theorem sx_2 : Cond.exactly (.string "RuleShuttle$Reader" 98) "java/lang/String" ∈ flatC (Jvm.Cond.and given_1 narrow_1) := by decide +kernel
theorem sx_3 : Cond.exactly (.string "RuleShuttle$Reader" 100) "java/lang/String" ∈ flatC (Jvm.Cond.and given_1 narrow_1) := by decide +kernel
theorem sx_4 : Cond.exactly (.string "RuleShuttle$Reader" 102) "java/lang/String" ∈ flatC (Jvm.Cond.and given_1 narrow_1) := by decide +kernel
theorem sx_5 : Cond.exactly (.string "RuleShuttle$Reader" 104) "java/lang/String" ∈ flatC (Jvm.Cond.and given_1 narrow_1) := by decide +kernel
theorem sx_6 : Cond.exactly (.string "RuleShuttle$Reader" 106) "java/lang/String" ∈ flatC (Jvm.Cond.and given_1 narrow_1) := by decide +kernel
theorem sx_7 : Cond.exactly (.string "RuleShuttle$Reader" 108) "java/lang/String" ∈ flatC (Jvm.Cond.and given_1 narrow_1) := by decide +kernel
theorem sx_8 : Cond.exactly (.string "RuleShuttle$Reader" 110) "java/lang/String" ∈ flatC (Jvm.Cond.and given_1 narrow_1) := by decide +kernel
theorem sx_9 : Cond.exactly (.string "RuleShuttle$Reader" 112) "java/lang/String" ∈ flatC (Jvm.Cond.and given_1 narrow_1) := by decide +kernel
theorem sx_10 : Cond.exactly (.string "RuleShuttle$Reader" 114) "java/lang/String" ∈ flatC (Jvm.Cond.and given_1 narrow_1) := by decide +kernel
theorem sx_11 : Cond.exactly (.string "RuleShuttle$Reader" 204) "java/lang/String" ∈ flatC (Jvm.Cond.and given_1 narrow_1) := by decide +kernel
theorem sx_12 : Cond.exactly (.string "RuleShuttle$Reader" 220) "java/lang/String" ∈ flatC (Jvm.Cond.and given_1 narrow_1) := by decide +kernel
theorem sx_13 : Cond.exactly (.string "RuleShuttle$Reader" 240) "java/lang/String" ∈ flatC (Jvm.Cond.and given_1 narrow_1) := by decide +kernel
theorem sx_14 : Cond.exactly (.string "RuleShuttle$Reader" 284) "java/lang/String" ∈ flatC (Jvm.Cond.and given_1 narrow_1) := by decide +kernel
theorem sx_15 : Cond.exactly (.string "RuleShuttle$Reader" 289) "java/lang/String" ∈ flatC (Jvm.Cond.and given_1 narrow_1) := by decide +kernel
theorem sx_16 : Cond.exactly (.string "RuleShuttle$Reader" 303) "java/lang/String" ∈ flatC (Jvm.Cond.and given_1 narrow_1) := by decide +kernel
theorem sx_17 : Cond.exactly (.string "RuleShuttle$Reader" 268) "java/lang/String" ∈ flatC (Jvm.Cond.and given_1 narrow_1) := by decide +kernel
theorem sx_18 : Cond.exactly (.string "RuleShuttle$Reader" 270) "java/lang/String" ∈ flatC (Jvm.Cond.and given_1 narrow_1) := by decide +kernel
theorem sx_19 : Cond.exactly (.string "RuleShuttle$Reader" 272) "java/lang/String" ∈ flatC (Jvm.Cond.and given_1 narrow_1) := by decide +kernel
theorem sx_20 : Cond.exactly (.string "RuleShuttle$Reader" 274) "java/lang/String" ∈ flatC (Jvm.Cond.and given_1 narrow_1) := by decide +kernel
theorem sx_21 : Cond.exactly (.string "RuleShuttle$Reader" 276) "java/lang/String" ∈ flatC (Jvm.Cond.and given_1 narrow_1) := by decide +kernel
theorem sx_22 : Cond.exactly (.string "RuleShuttle$Reader" 278) "java/lang/String" ∈ flatC (Jvm.Cond.and given_1 narrow_1) := by decide +kernel
theorem sx_23 : Cond.exactly (.string "RuleShuttle$Reader" 147) "java/lang/String" ∈ flatC (Jvm.Cond.and given_1 narrow_1) := by decide +kernel
