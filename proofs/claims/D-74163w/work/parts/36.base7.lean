/-! BASE 7: methods that throw Wrong -/
set_option maxRecDepth 100000
/-- the exception q lies thrown over the frame -/
def KEE (p : Program) (l : Launch) (e : Env) (R : Room) (s : State) (m : MethodId) (args : Array Value) (below : List Frame) (meth : Method) (c : Code) (D : va_G) (s0 : S0) (nL mc ms : Nat) (Z : State → Prop) (pc : Nat) (L : List (Nat × SV)) (q : Nat) (h : AH) : Prop :=
  ∀ (H : Heap) (locs : List Loc) (ls : Array Slot) (rest : List Value), lv_has ls nL (L.map tL) → Rp D H h → h.bs = bsOf s0 → va_S (Lo s0) s.heap H locs → h.rc ≤ mc → h.rs ≤ ms →
    ve_W p l e R s m args below meth c H locs (mc - h.rc) (ms - h.rs) Z (F0 m pc ls rest) q
abbrev KXT : Type := Nat → List (Nat × SV) → Nat → AH → Prop
/-- how a method ends that throws -/
def Xg (D : va_G) (s0 : S0) (X : Nat → AH → Prop) : String → Addr → State → State → Prop := fun E q st t => E = "RuleShuttle$Wrong" ∧ ∃ h : AH, X q h ∧ (h.kd q).1 = 5 ∧ Rp D t.heap h ∧ h.bs = bsOf s0 ∧ va_F (Lo s0) st t
def OKx (l : Launch) (D : va_G) (s0 : S0) (y : MethodName) (cc : ByteArray) (nL : Nat) (ret : Option FieldType) (fr lw : Nat) (vs : List SV) (h : AH) (Q : Option SV → AH → Prop) (X : Nat → AH → Prop) : Prop :=
  ve_Met l y (ws_ y cc nL ret) { frames := fr, cells := h.rc, slots := h.rs, locals := lw } (Pg D s0 vs h) (Qg D s0 Q) (Xg D s0 X) h.rc h.rs (Lo s0)
def Cy (l : Launch) (D : va_G) (s0 : S0) (cc : ByteArray) (own mn : String) (nL fr lw mc ms : Nat) (ret : Option FieldType) (Q : Option SV → AH → Prop) (X : Nat → AH → Prop) (K : KT) (KE : KXT) : Prop :=
  ∃ (p : Program) (e : Env) (R : Room) (s : State) (m : MethodId) (args : Array Value) (below : List Frame) (meth : Method) (c : Code),
    p.tables.exec = Jvm.exec ∧ c.code = cc ∧ c.maxLocals = nL ∧ s.vm.findClass own = some m.cls ∧ (∀ w ∈ lw_all, w.before args s = true) ∧ DS s0 s ∧ G0 D s0 ∧ (R.frames = fr ∧ R.locals = lw ∧ R.cells = mc ∧ R.slots = ms) ∧
    (meth.sig.returnType = ret ∧ meth.locks = false ∧ meth.name = mn) ∧ (∀ x ∈ c.exceptionTable.toList, False) ∧
    K = KK p l e R s m args below meth c D s0 nL mc ms (ve_MQ below (Qg D s0 Q) (Xg D s0 X) args s mc ms (Lo s0)) ∧ KE = KEE p l e R s m args below meth c D s0 nL mc ms (ve_MQ below (Qg D s0 Q) (Xg D s0 X) args s mc ms (Lo s0))
def OKw (l : Launch) (D : va_G) (s0 : S0) (y : MethodName) (cc : ByteArray) (nL : Nat) (ret : Option FieldType) (hh : List (Nat × Nat × Nat × Nat)) (fr lw : Nat) (vs : List SV) (h : AH) (Q : Option SV → AH → Prop) : Prop :=
  Met l y (Cond.codeWith y cc nL ret hh :: lw_all) { frames := fr, cells := h.rc, slots := h.rs, locals := lw } (Pg D s0 vs h) (Qg D s0 Q) h.rc h.rs (Lo s0)
/-- a place where an exception may lie over the frame -/
def Cw (l : Launch) (D : va_G) (s0 : S0) (cc : ByteArray) (own mn : String) (nL fr lw mc ms : Nat) (ret : Option FieldType) (Q : Option SV → AH → Prop) (K : KT) (KE : KXT) : Prop :=
  ∃ (p : Program) (e : Env) (R : Room) (s : State) (m : MethodId) (args : Array Value) (below : List Frame) (meth : Method) (c : Code) (Z : State → Prop),
    p.tables.exec = Jvm.exec ∧ c.code = cc ∧ c.maxLocals = nL ∧ s.vm.findClass own = some m.cls ∧ (∀ w ∈ lw_all, w.before args s = true) ∧ DS s0 s ∧ G0 D s0 ∧ (R.frames = fr ∧ R.locals = lw ∧ R.cells = mc ∧ R.slots = ms) ∧
    (meth.sig.returnType = ret ∧ meth.locks = false ∧ meth.name = mn) ∧ (∀ (H : Heap) (locs : List Loc) (k n : Nat) (g : JFrame), W p l e R s m args below meth c H locs k n (MQ below (Qg D s0 Q) args s mc ms (Lo s0)) g → W p l e R s m args below meth c H locs k n Z g) ∧
    K = KK p l e R s m args below meth c D s0 nL mc ms Z ∧ KE = KEE p l e R s m args below meth c D s0 nL mc ms Z
/-- .. with a table of its own, and nothing thrown out of it -/
def Cz (l : Launch) (D : va_G) (s0 : S0) (cc : ByteArray) (own mn : String) (nL fr lw mc ms : Nat) (ret : Option FieldType) (Q : Option SV → AH → Prop) (hh : List (Nat × Nat × Nat × Nat)) (K : KT) (KE : KXT) : Prop :=
  ∃ (p : Program) (e : Env) (R : Room) (s : State) (m : MethodId) (args : Array Value) (below : List Frame) (meth : Method) (c : Code),
    p.tables.exec = Jvm.exec ∧ c.code = cc ∧ c.maxLocals = nL ∧ s.vm.findClass own = some m.cls ∧ (∀ w ∈ lw_all, w.before args s = true) ∧ DS s0 s ∧ G0 D s0 ∧ (R.frames = fr ∧ R.locals = lw ∧ R.cells = mc ∧ R.slots = ms) ∧
    (meth.sig.returnType = ret ∧ meth.locks = false ∧ meth.name = mn) ∧ c.exceptionTable.toList = tableOf hh ∧
    K = KK p l e R s m args below meth c D s0 nL mc ms (MQ below (Qg D s0 Q) args s mc ms (Lo s0)) ∧ KE = KEE p l e R s m args below meth c D s0 nL mc ms (MQ below (Qg D s0 Q) args s mc ms (Lo s0))
theorem nn_k {h : AH} {r : Option Nat} {t : Nat} (hn : nn h r t) : (h.kd (adr r)).1 = t := by
  obtain ⟨a, rfl, hk⟩ := hn
  exact hk
section ROWS16
variable {l : Launch} {D : va_G} {s0 : S0} {cc : ByteArray} {own mn : String} {nL fr lw mc ms : Nat} {ret : Option FieldType} {Q : Option SV → AH → Prop} {X : Nat → AH → Prop} {K : KT} {KE : KXT}
variable {pc : Nat} {L : List (Nat × SV)} {st : List SV} {h : AH}
theorem Cy.cx (E : Cy l D s0 cc own mn nL fr lw mc ms ret Q X K KE) : Cx l D s0 cc own mn nL fr lw mc ms ret Q K := by
  obtain ⟨p, e, R, s, m, args, below, meth, c, hx, hb, hml, ho, hts, hds, hG, hRm, hr, htb, hK, -⟩ := E
  exact ⟨p, e, R, s, m, args, below, meth, c, _, hx, hb, hml, ho, hts, hds, hG, hRm, hr, fun H locs k n g hw => ve_ret hw, hK⟩
theorem Cy.cw (E : Cy l D s0 cc own mn nL fr lw mc ms ret Q X K KE) : Cw l D s0 cc own mn nL fr lw mc ms ret Q K KE := by
  obtain ⟨p, e, R, s, m, args, below, meth, c, hx, hb, hml, ho, hts, hds, hG, hRm, hr, htb, hK, hKE⟩ := E
  exact ⟨p, e, R, s, m, args, below, meth, c, _, hx, hb, hml, ho, hts, hds, hG, hRm, hr, fun H locs k n g hw => ve_ret hw, hK, hKE⟩
theorem Cz.cw {hh : List (Nat × Nat × Nat × Nat)} (E : Cz l D s0 cc own mn nL fr lw mc ms ret Q hh K KE) : Cw l D s0 cc own mn nL fr lw mc ms ret Q K KE := by
  obtain ⟨p, e, R, s, m, args, below, meth, c, hx, hb, hml, ho, hts, hds, hG, hRm, hr, htb, hK, hKE⟩ := E
  exact ⟨p, e, R, s, m, args, below, meth, c, _, hx, hb, hml, ho, hts, hds, hG, hRm, hr, fun H locs k n g hw => hw, hK, hKE⟩
theorem Cw.cx (E : Cw l D s0 cc own mn nL fr lw mc ms ret Q K KE) : Cx l D s0 cc own mn nL fr lw mc ms ret Q K := by
  obtain ⟨p, e, R, s, m, args, below, meth, c, Z, hx, hb, hml, ho, hts, hds, hG, hRm, hr, hz, hK, hKE⟩ := E
  exact ⟨p, e, R, s, m, args, below, meth, c, Z, hx, hb, hml, ho, hts, hds, hG, hRm, hr, hz, hK⟩
theorem z_catch {sp ep hp ct : Nat} (E : Cz l D s0 cc own mn nL fr lw mc ms ret Q [(sp, ep, hp, ct)] K KE) {q : Nat} (hcov : Nat.ble sp pc = true ∧ Nat.blt pc ep = true) (h0 : ct ≠ 0) (q1 : Cond.classLink own ct "RuleShuttle$Wrong" ∈ lw_all) (q2 : Cond.castable "RuleShuttle$Wrong" "RuleShuttle$Wrong" ∈ lw_tbl) (hk : (h.kd q).1 = 5) (k : K hp L [vA (some q)] h) : KE pc L q h := by
  obtain ⟨p, e, R, s, m, args, below, meth, c, hx, hb, hml, ho, hts, hds, hG, hRm, hr, htb, rfl, rfl⟩ := E
  intro H locs ls rest hl hR hlo hS h1 h2
  obtain ⟨i, hi, hCC⟩ : ∃ i, CL 5 = some i ∧ i.1 = "RuleShuttle$Wrong" := ⟨_, rfl, rfl⟩
  obtain ⟨cell, c1, c2, c3, -⟩ := (hR.2.2.2 q).1 i (by rw [hk]; exact hi)
  replace c3 := c3.2.2 (hR.2.2.1 q (by rw [hk]; rfl))
  obtain ⟨b0, hw0, -⟩ := hG.1
  have hcast : (Cond.castable "RuleShuttle$Wrong" "RuleShuttle$Wrong").before args s = true := va_Nw.use rfl (va_Nw.warmC hds.1 (va_Nw.of rfl (hw0 _ q2)))
  have hcl : s.vm.findClass "RuleShuttle$Wrong" = some cell.cls := by
    rw [c2, ← hCC, hk]
    exact (hds.kn hG hi).2.1
  refine ve_catch (E := "RuleShuttle$Wrong") (name := "RuleShuttle$Wrong") ho [] _ [] htb (fun z hz => absurd hz List.not_mem_nil) ?_ h0 (hts _ q1) hcast c1 c3 hcl (k H locs ls hl hR hlo hS h1 h2)
  have g1 := Nat.le_of_ble_eq_true hcov.1
  have g2 := blt_lt hcov.2
  simp [covers, g1, g2]
theorem y_met (hG : G0 D s0) {y : MethodName} {vs : List SV} {L0 : List (Nat × SV)} (hy : plainName y.cls = true) (hown : y.cls = own) (hmn : y.name = mn) (hL : largs 0 vs = L0) (hlen : Nat.ble (vs.map wd).sum nL = true)
    (body : ∀ K KE, Cy l D s0 cc own mn nL fr lw h.rc h.rs ret Q X K KE → K 0 L0 [] h) : OKx l D s0 y cc nL ret fr lw vs h Q X := by
  refine ve_ofW (cc := cc) (maxL := nL) (ret := ret) hy rfl ?_
  intro p e s m args below meth c s₁ B hml htb hv
  obtain ⟨rfl, hR, hlo, hds⟩ := hv
  have hts := atoms_spec (ws := ws_ y cc nL ret) B.pre
  have hts : ∀ w ∈ lw_all, w.before _ s = true := fun w h => hts w (List.mem_cons_of_mem _ h)
  have ho : s.vm.findClass own = some m.cls := by rw [← hown]; exact findClass_of_methodNamed B.named
  have hname : meth.name = mn := by rw [← hmn]; exact (name_of_methodNamed B.named B.method).1
  have hb := body _ _ ⟨p, e, (headSpec (ws_ y cc nL ret) { frames := fr, cells := h.rc, slots := h.rs, locals := lw }).room, s, m, _, below, meth, c, B.exec, B.bytes, hml, ho, hts, hds, hG, ⟨rfl, rfl, rfl, rfl⟩, ⟨B.returns, B.notSynchronized, hname⟩, htb, rfl, rfl⟩
  rw [lg_entry_eq]
  have hl := lv_entry (vs.map tV) (n := nL) (by rw [sl_len]; exact Nat.le_of_ble_eq_true hlen)
  rw [largs_map, hL] at hl
  have := hb s.heap [] _ hl hR hlo va_S.rf (Nat.le_refl _) (Nat.le_refl _)
  rw [Nat.sub_self, Nat.sub_self] at this
  exact this
theorem z_met {hh : List (Nat × Nat × Nat × Nat)} (hG : G0 D s0) {y : MethodName} {vs : List SV} {L0 : List (Nat × SV)} (hy : plainName y.cls = true) (hown : y.cls = own) (hmn : y.name = mn) (hL : largs 0 vs = L0) (hlen : Nat.ble (vs.map wd).sum nL = true)
    (body : ∀ K KE, Cz l D s0 cc own mn nL fr lw h.rc h.rs ret Q hh K KE → K 0 L0 [] h) : OKw l D s0 y cc nL ret hh fr lw vs h Q := by
  refine va_MetW (cc := cc) (maxL := nL) (ret := ret) (hh := hh) hy rfl ?_
  intro p e s m args below meth c s₁ B hml hv
  obtain ⟨rfl, hR, hlo, hds⟩ := hv
  have hts0 := atoms_spec (ws := Cond.codeWith y cc nL ret hh :: lw_all) B.pre
  have htb := ve_table (x := y) B (hts0 _ List.mem_cons_self)
  have hts : ∀ w ∈ lw_all, w.before _ s = true := fun w h => hts0 w (List.mem_cons_of_mem _ h)
  have ho : s.vm.findClass own = some m.cls := by rw [← hown]; exact findClass_of_methodNamed B.named
  have hname : meth.name = mn := by rw [← hmn]; exact (name_of_methodNamed B.named B.method).1
  have hb := body _ _ ⟨p, e, (headSpec (Cond.codeWith y cc nL ret hh :: lw_all) { frames := fr, cells := h.rc, slots := h.rs, locals := lw }).room, s, m, _, below, meth, c, B.exec, B.bytes, hml, ho, hts, hds, hG, ⟨rfl, rfl, rfl, rfl⟩, ⟨B.returns, B.notSynchronized, hname⟩, htb, rfl, rfl⟩
  rw [lg_entry_eq]
  have hl := lv_entry (vs.map tV) (n := nL) (by rw [sl_len]; exact Nat.le_of_ble_eq_true hlen)
  rw [largs_map, hL] at hl
  have := hb s.heap [] _ hl hR hlo va_S.rf (Nat.le_refl _) (Nat.le_refl _)
  rw [Nat.sub_self, Nat.sub_self] at this
  exact this
theorem y_athrow (E : Cw l D s0 cc own mn nL fr lw mc ms ret Q K KE) {r : Option Nat} (d : decode cc pc = .ok (.athrow, 1)) (hn : nn h r 5) (k : KE pc L (adr r) h) : K pc L (vA r :: st) h := by
  obtain ⟨p, e, R, s, m, args, below, meth, c, Z, hx, hb, hml, ho, hts, hds, hG, hRm, hr, htb, rfl, rfl⟩ := E
  obtain ⟨a, rfl, hkd⟩ := hn
  intro H locs ls hl hR hlo hS h1 h2
  exact ve_athrow hx hb d (k H locs ls _ hl hR hlo hS h1 h2)
theorem y_out (E : Cy l D s0 cc own mn nL fr lw mc ms ret Q X K KE) {q : Nat} (hk : (h.kd q).1 = 5) (hX : X q h) : KE pc L q h := by
  obtain ⟨p, e, R, s, m, args, below, meth, c, hx, hb, hml, ho, hts, hds, hG, hRm, ⟨hr, hlk, -⟩, htb, rfl, rfl⟩ := E
  intro H locs ls rest hl hR hlo hS h1 h2
  obtain ⟨i, hi, hCC⟩ : ∃ i, CL 5 = some i ∧ i.1 = "RuleShuttle$Wrong" := ⟨_, rfl, rfl⟩
  obtain ⟨cell, c1, c2, c3, -⟩ := (hR.2.2.2 q).1 i (by rw [hk]; exact hi)
  replace c3 := c3.2.2 (hR.2.2.1 q (by rw [hk]; rfl))
  refine ve_out (E := "RuleShuttle$Wrong") (ce := cell) (fun x hx9 => (htb x hx9).elim) hlk c1 c3 ?_ (fun t ht hal => ⟨rfl, h, hX, hk, by rw [ht]; exact hR, hlo, hS.F ht⟩) hS.2.2 (Nat.sub_le _ _) (Nat.sub_le _ _)
  rw [c2, ← hCC, hk]
  exact (hds.kn hG hi).2.1
theorem y_ran {p : Program} {e : Env} {R : Room} {s : State} {m : MethodId} {args : Array Value} {below : List Frame} {meth : Method} {c : Code} {H : Heap} {locs : List Loc} {ls : Array Slot} {Z : State → Prop} {mc2 ms2 : Nat} {st0 rest : List Value} {Q2 : Option SV → AH → Prop} {X2 : Nat → AH → Prop} {a : Array Value} (hr : ve_Run p l e R s m args below meth c H locs (mc - h.rc) (ms - h.rs) mc2 ms2 (F0 m pc ls st0) rest (Qg D s0 Q2 a) (Xg D s0 X2) (Lo s0)) (hl : lv_has ls nL (L.map tL)) (hrest : rest = st.map tV) (hS : va_S (Lo s0) s.heap H locs) (h1 : h.rc ≤ mc) (h2 : h.rs ≤ ms) (g1 : mc2 ≤ h.rc) (g2 : ms2 ≤ h.rs)
    (kk : ∀ v h', Q2 v h' → KK p l e R s m args below meth c D s0 nL mc ms Z (pc + 3) L (v.toList ++ st) (h'.srm (h.rc - mc2) (h.rs - ms2)))
    (kx : ∀ q h', X2 q h' → (h'.kd q).1 = 5 → KEE p l e R s m args below meth c D s0 nL mc ms Z pc L q (h'.srm (h.rc - mc2) (h.rs - ms2))) : W p l e R s m args below meth c H locs (mc - h.rc) (ms - h.rs) Z (F0 m pc ls st0) := by
  intro T hT X
  subst hrest
  have e3 : mc - h.rc + mc2 = mc - (h.rc - mc2) := by omega
  have e4 : ms - h.rs + ms2 = ms - (h.rs - ms2) := by omega
  rcases hr T hT X with ⟨v, st₀, t, T', L2, h0, X', hL, e1, e2, ⟨w, h', hv, hq, hR', hlo', hz, hk⟩, stp⟩ | ⟨q, st₀, t, T', L2, E, ce, h0, X', hL, e1, e2, ⟨hE, h', hq, hkq, hR', hlo', hz, hk⟩, hce, hcv, hcl, stp⟩
  · cases hv
    rw [h0] at hz hk
    rw [e3, e4] at X'
    obtain ⟨t2, a1, b1⟩ := kk w h' hq T'.heap (locs ++ L2) ls hl (by rw [e1]; exact hR'.srm) hlo'
      ⟨Nat.le_trans hS.1 (by rw [e1]; exact hz), fun q q1 q2 => by rw [e1, hk q (Nat.lt_of_lt_of_le q1 hS.1) q2]; exact hS.2.1 q q1 q2, fun q hq => by
        rcases List.mem_append.mp hq with h | h
        · exact hS.2.2 q h
        · exact hL q h⟩ (Nat.le_trans (Nat.sub_le _ _) h1) (Nat.le_trans (Nat.sub_le _ _) h2) T' rfl X'
    refine ⟨t2, stp t2 ?_, b1⟩
    rw [List.map_append] at a1
    have e5 : (w.map tV).toList = w.toList.map tV := by cases w <;> rfl
    rw [e5]
    exact a1
  · rw [h0] at hz hk
    rw [e3, e4] at X'
    obtain ⟨t2, a1, b1⟩ := kx q h' hq hkq T'.heap (locs ++ L2) ls (st.map tV) hl (by rw [e1]; exact hR'.srm) hlo'
      ⟨Nat.le_trans hS.1 (by rw [e1]; exact hz), fun q q1 q2 => by rw [e1, hk q (Nat.lt_of_lt_of_le q1 hS.1) q2]; exact hS.2.1 q q1 q2, fun q hq => by
        rcases List.mem_append.mp hq with h | h
        · exact hS.2.2 q h
        · exact hL q h⟩ (Nat.le_trans (Nat.sub_le _ _) h1) (Nat.le_trans (Nat.sub_le _ _) h2) T' rfl X'
    exact ⟨t2, stp.trans a1, b1⟩
/-- a call of a method of the class t that may throw -/
theorem y_cV (E : Cw l D s0 cc own mn nL fr lw mc ms ret Q K KE) (t : Nat) {index : Nat} (nxt : Nat) {y : MethodName} {b2 : ByteArray} {L2 : Nat} {r2 : Option FieldType} {fr2 lw2 mc2 ms2 : Nat} {CC : String} {r : Option Nat} (As st : List SV) {Q2 : Option SV → AH → Prop} {X2 : Nat → AH → Prop} (d : decode cc pc = .ok (.invokevirtual index, 3)) (hnx : pc + 3 = nxt)
    (hM : OKx l D s0 y b2 L2 r2 fr2 lw2 (vA (some (adr r)) :: As) (h.srm mc2 ms2) Q2 X2) (hle : mc2 ≤ h.rc ∧ ms2 ≤ h.rs) (q1 : Cond.methodLink own index y ∈ lw_all) (q2 : Cond.instanceMethod y ∈ lw_all) (q3 : Cond.selects CC y y ∈ lw_all) (q4 : Cond.initialized CC ∈ lw_all) (q5 : Cond.code y b2 L2 r2 ∈ lw_all)
    (hcl : (CL t).map (fun i => i.1) = some CC) (hd : y.cls = CC ∧ y.cls ≠ "java/lang/invoke/MethodHandle" ∧ y.cls ≠ "java/lang/invoke/VarHandle" ∧ (parseMethodDescriptor y.desc).map (fun d => d.parameters.length) = some As.length) (hroom : Nat.ble (fr2 + 1) fr = true ∧ Nat.ble (8 + (L2 + 11) + lw2) lw = true ∧ Nat.ble (st.map wd).sum 8 = true) (hn : nn h r t)
    (kk : ∀ v h' h2, Q2 v h' → h2 = h'.srm (h.rc - mc2) (h.rs - ms2) → K nxt L (v.toList ++ st) h2)
    (kx : ∀ q h' h2, X2 q h' → (h'.kd q).1 = 5 → h2 = h'.srm (h.rc - mc2) (h.rs - ms2) → KE pc L q h2) : K pc L (As.reverse ++ vA r :: st) h := by
  obtain ⟨p, e, R, s, m, args, below, meth, c, Z, hx, hb, hml, ho, hts, hds, hG, ⟨rf1, rf2, rf3, rf4⟩, hr, htb, rfl, rfl⟩ := E
  subst hnx
  obtain ⟨a, rfl, hkd⟩ := hn
  intro H locs ls hl hR hlo hS h1 h2
  have cw := cwV (R := R) (mc := mc2) (ms := ms2) (rm := { frames := fr2, cells := mc2, slots := ms2, locals := lw2 }) As.length hts (lw_V q1 q2 q3 q4 q5) rfl rfl rfl hd ⟨by rw [rf1]; exact Nat.le_of_ble_eq_true hroom.1, by rw [rf2]; exact Nat.le_of_ble_eq_true hroom.2.1⟩
  refine y_ran (ve_runV (mc := mc2) (ms := ms2) (As := As.map tV) (rest := st.map tV) (b := a) (g := F0 m pc ls ((As.reverse ++ vA (some a) :: st).map tV)) ⟨hx, hb, hml, ho, hts⟩ hM cw ⟨Pg.blind, x_recv hds hG hR hkd hcl, Pg.at hds hR.srm hlo hS⟩ rfl (List.length_map _) hl.1 ?_ (lv_room (by rw [sum_tV]; exact Nat.le_of_ble_eq_true hroom.2.2)) d ⟨by rw [rf3]; have := hle.1; omega, by rw [rf4]; have := hle.2; omega⟩) hl rfl hS h1 h2 hle.1 hle.2 (fun v h' hq => kk v h' _ hq rfl) (fun q h' hq hk => kx q h' _ hq hk rfl)
  show (As.reverse ++ vA (some a) :: st).map tV = (As.map tV).reverse ++ Value.ref a :: st.map tV
  rw [List.map_append, List.map_reverse]
  rfl
end ROWS16
