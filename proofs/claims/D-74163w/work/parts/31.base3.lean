/-! BASE 3: calls through classes above, interfaces; copies; statics; constants -/
set_option maxRecDepth 100000
theorem Met.ofWF {l : Launch} {y : MethodName} {ws ws' : List Cond} {rm : Room} {Pc : Array Value → State → Prop} {Qc : Array Value → State → Outcome → State → Prop} {mc ms : Nat} {free : Addr → Prop} {cc : ByteArray} {maxL : Nat} {ret : Option FieldType}
    (hy : plainFor y = true) (hw : ws = Cond.code y cc maxL ret :: ws')
    (body : ∀ p e s m args below meth c s₁, BodyLoose p l y (headSpec ws rm) cc maxL ret e s m args below meth c s₁ → c.maxLocals = maxL → Pc args s →
      W p l e (headSpec ws rm).room s m args below meth c s.heap [] 0 0 (MQ below Qc args s mc ms free) (entryFrame m args maxL)) : Met l y ws rm Pc Qc mc ms free := by
  refine MetFree.of_bodySF (code := cc) (maxLocals := maxL) (ret := ret) hy ?_ ?_
  · intro args s m h hn
    obtain ⟨meth, c, h1, h2, h3, h4, h5, h6, -, -⟩ := Cond.code_spec hn (atoms_spec (ws := ws) h _ (by rw [hw]; exact List.mem_cons_self))
    exact ⟨meth, c, h1, h2, h3, h4, h5, h6⟩
  · intro p e s m args below meth c s₁ B hml hP _
    have hh0 : s₁.heap = s.heap := by rw [B.state]; rfl
    obtain ⟨t, a1, o, b1, b2, b3⟩ := body p e s m args below meth c s₁ B hml hP s₁ hh0 (Stand.of_body B)
    exact ⟨t, o, a1, b1, b2, ⟨b3.1, b3.2⟩⟩
theorem x_metF {l : Launch} {D : va_G} {s0 : S0} (hG : G0 D s0) {y : MethodName} {cc : ByteArray} {nL : Nat} {ret : Option FieldType} {fr lw : Nat} {own mn : String} {vs : List SV} {L0 : List (Nat × SV)} {h : AH} {Q : Option SV → AH → Prop} (hy : plainFor y = true) (hown : y.cls = own) (hmn : y.name = mn) (hL : largs 0 vs = L0) (hlen : Nat.ble (vs.map wd).sum nL = true)
    (body : ∀ K, Cx l D s0 cc own mn nL fr lw h.rc h.rs ret Q K → K 0 L0 [] h) : OKm l D s0 y cc nL ret fr lw vs h Q := by
  refine Met.ofWF (cc := cc) (maxL := nL) (ret := ret) hy rfl ?_
  intro p e s m args below meth c s₁ B hml hv
  obtain ⟨rfl, hR, hlo, hds⟩ := hv
  have hts := atoms_spec (ws := ws_ y cc nL ret) B.pre
  have hts : ∀ w ∈ lw_all, w.before _ s = true := fun w h => hts w (List.mem_cons_of_mem _ h)
  have ho : s.vm.findClass own = some m.cls := by rw [← hown]; exact findClass_of_methodNamed B.named
  have hname : meth.name = mn := by rw [← hmn]; exact (name_of_methodNamed B.named B.method).1
  have hb := body _ ⟨p, e, (headSpec (ws_ y cc nL ret) { frames := fr, cells := h.rc, slots := h.rs, locals := lw }).room, s, m, _, below, meth, c, _, B.exec, B.bytes, hml, ho, hts, hds, hG, ⟨rfl, rfl, rfl, rfl⟩, ⟨B.returns, B.notSynchronized, hname⟩, fun H locs k n g hw => hw, rfl⟩
  rw [lg_entry_eq]
  have hl := lv_entry (vs.map tV) (n := nL) (by rw [sl_len]; exact Nat.le_of_ble_eq_true hlen)
  rw [largs_map, hL] at hl
  have := hb s.heap [] _ hl hR hlo va_S.rf (Nat.le_refl _) (Nat.le_refl _)
  rw [Nat.sub_self, Nat.sub_self] at this
  exact this
section ROWS9
variable {p : Program} {l : Launch} {e : Env} {R : Room} {s : State} {m : MethodId} {args : Array Value} {below : List Frame} {meth : Method} {c : Code} {D : va_G} {s0 : S0} {nL mc ms : Nat} {Z : State → Prop} {pc : Nat} {L : List (Nat × SV)} {st : List SV} {h : AH} {H : Heap} {locs : List Loc} {ls : Array Slot}
theorem x_ran5 {mc2 ms2 : Nat} {st0 rest : List Value} {Q2 : Option SV → AH → Prop} {a : Array Value} (hr : va_Run5 p l e R s m args below meth c H locs (mc - h.rc) (ms - h.rs) mc2 ms2 (F0 m pc ls st0) rest (Qg D s0 Q2 a) (Lo s0)) (hl : lv_has ls nL (L.map tL)) (hrest : rest = st.map tV) (hS : va_S (Lo s0) s.heap H locs) (h1 : h.rc ≤ mc) (h2 : h.rs ≤ ms) (g1 : mc2 ≤ h.rc) (g2 : ms2 ≤ h.rs) (hds : DS s0 s)
    (kk : ∀ v h', Q2 v h' → KK p l e R s m args below meth c D s0 nL mc ms Z (pc + 5) L (v.toList ++ st) (h'.srm (h.rc - mc2) (h.rs - ms2))) : W p l e R s m args below meth c H locs (mc - h.rc) (ms - h.rs) Z (F0 m pc ls st0) := by
  intro T hT X
  subst hrest
  obtain ⟨v, st₀, t, T', L2, h0, X', hL, e1, e2, ⟨w, h', hv, hq, hR', hlo', hz, hk⟩, stp⟩ := hr T hT X
  cases hv
  rw [h0] at hz hk
  have e3 : mc - h.rc + mc2 = mc - (h.rc - mc2) := by omega
  have e4 : ms - h.rs + ms2 = ms - (h.rs - ms2) := by omega
  rw [e3, e4] at X'
  obtain ⟨t2, a1, b1⟩ := kk w h' hq T'.heap (locs ++ L2) ls hl (by rw [e1]; exact hR'.srm) hlo'
    ⟨Nat.le_trans hS.1 (by rw [e1]; exact hz), fun q q1 q2 => by rw [e1, hk q (Nat.lt_of_lt_of_le q1 hS.1) q2]; exact hS.2.1 q q1 q2, fun q hq => by
      rcases List.mem_append.mp hq with h | h
      · exact hS.2.2 q h
      · exact hL q h⟩ (Nat.le_trans (Nat.sub_le _ _) h1) (Nat.le_trans (Nat.sub_le _ _) h2) T' rfl X'
  refine ⟨t2, stp t2 ?_, b1⟩
  rw [List.map_append] at a1
  have e5 : (w.map tV).toList = w.toList.map tV := by cases w <;> rfl
  rw [e5]
  exact a1
end ROWS9
theorem lw_U {own : String} {idx : Nat} {C owner : String} {x y : MethodName} {b : ByteArray} {L : Nat} {r : Option FieldType} (h1 : Cond.methodLink own idx x ∈ lw_all) (h2 : Cond.sameMethod x.cls owner x.name x.desc ∈ lw_all) (h3 : Cond.selects C x y ∈ lw_all) (h4 : Cond.instanceMethod y ∈ lw_all) (h5 : Cond.initialized y.cls ∈ lw_all) (h6 : Cond.code y b L r ∈ lw_all) : GoodIn lw_all (va_wsU own idx C owner x y (ws_ y b L r)) := by
  refine lw_app ?_ (lw_meth h6)
  intro w hw
  simp only [List.mem_cons, List.not_mem_nil, or_false] at hw
  rcases hw with e | e | e | e | e
  · rw [e]; exact h1
  · rw [e]; exact h2
  · rw [e]; exact h3
  · rw [e]; exact h4
  · rw [e]; exact h5
theorem lw_F {own : String} {idx : Nat} {C : String} {x y : MethodName} {b : ByteArray} {L : Nat} {r : Option FieldType} (h1 : Cond.methodLink own idx x ∈ lw_all) (h3 : Cond.selects C x y ∈ lw_all) (h4 : Cond.instanceMethod y ∈ lw_all) (h5 : Cond.initialized y.cls ∈ lw_all) (h6 : Cond.code y b L r ∈ lw_all) : GoodIn lw_all (va_wsF own idx C x y (ws_ y b L r)) := by
  refine lw_app ?_ (lw_meth h6)
  intro w hw
  simp only [List.mem_cons, List.not_mem_nil, or_false] at hw
  rcases hw with e | e | e | e
  · rw [e]; exact h1
  · rw [e]; exact h3
  · rw [e]; exact h4
  · rw [e]; exact h5
theorem lw_SU {own : String} {idx : Nat} {y : MethodName} {b : ByteArray} {L : Nat} {r : Option FieldType} (h1 : Cond.methodLink own idx y ∈ lw_all) (h2 : Cond.sameMethod y.cls y.cls y.name y.desc ∈ lw_all) (h3 : Cond.superclass own y.cls ∈ lw_all) (h4 : Cond.instanceMethod y ∈ lw_all) (h5 : Cond.initialized y.cls ∈ lw_all) (h6 : Cond.code y b L r ∈ lw_all) : GoodIn lw_all (va_wsSU own idx y (ws_ y b L r)) := by
  refine lw_app ?_ (lw_meth h6)
  intro w hw
  simp only [List.mem_cons, List.not_mem_nil, or_false] at hw
  rcases hw with e | e | e | e | e
  · rw [e]; exact h1
  · rw [e]; exact h2
  · rw [e]; exact h3
  · rw [e]; exact h4
  · rw [e]; exact h5
section ROWS10
variable {l : Launch} {D : va_G} {s0 : S0} {cc : ByteArray} {own mn : String} {nL fr lw mc ms : Nat} {ret : Option FieldType} {Q : Option SV → AH → Prop} {K : KT}
variable {pc : Nat} {L : List (Nat × SV)} {h : AH}
/-- a method found by the receiver (of the kind t): the reference names x, owner's; y is run. hz: the reference's own row (its code, or that it is declared) -/
theorem x_cU (C : Cx l D s0 cc own mn nL fr lw mc ms ret Q K) (t : Nat) {index : Nat} (nxt : Nat) {x y : MethodName} {owner : String} {b2 : ByteArray} {L2 : Nat} {r2 : Option FieldType} {fr2 lw2 mc2 ms2 : Nat} {CC : String} {r : Option Nat} (As st : List SV) {Q2 : Option SV → AH → Prop} (d : decode cc pc = .ok (.invokevirtual index, 3)) (hnx : pc + 3 = nxt)
    (hM : OKm l D s0 y b2 L2 r2 fr2 lw2 (vA (some (adr r)) :: As) (h.srm mc2 ms2) Q2) (hle : mc2 ≤ h.rc ∧ ms2 ≤ h.rs) (q1 : Cond.methodLink own index x ∈ lw_all) (q2 : Cond.sameMethod x.cls owner x.name x.desc ∈ lw_all) (q3 : Cond.selects CC x y ∈ lw_all) (q4 : Cond.instanceMethod y ∈ lw_all) (q5 : Cond.initialized y.cls ∈ lw_all) (q6 : Cond.code y b2 L2 r2 ∈ lw_all)
    (hz : y = ⟨owner, x.name, x.desc⟩ ∨ Cond.declares ⟨owner, x.name, x.desc⟩ ∈ lw_tbl ∨ (Cond.instanceMethod ⟨owner, x.name, x.desc⟩ ∈ lw_all ∧ ∃ b0 m0 r0, Cond.code ⟨owner, x.name, x.desc⟩ b0 m0 r0 ∈ lw_all))
    (hcl : (CL t).map (fun i => i.1) = some CC) (hd : owner ≠ "java/lang/invoke/MethodHandle" ∧ owner ≠ "java/lang/invoke/VarHandle" ∧ (parseMethodDescriptor x.desc).map (fun d => d.parameters.length) = some As.length) (hroom : Nat.ble (fr2 + 1) fr = true ∧ Nat.ble (8 + (L2 + 11) + lw2) lw = true ∧ Nat.ble (st.map wd).sum 8 = true) (hn : nn h r t)
    (kk : ∀ v h' h2, Q2 v h' → h2 = h'.srm (h.rc - mc2) (h.rs - ms2) → K nxt L (v.toList ++ st) h2) : K pc L (As.reverse ++ vA r :: st) h := by
  obtain ⟨p, e, R, s, m, args, below, meth, c, Z, hx, hb, hml, ho, hts, hds, hG, ⟨rf1, rf2, rf3, rf4⟩, hr, hz2, rfl⟩ := C
  subst hnx
  obtain ⟨a, rfl, hkd⟩ := hn
  intro H locs ls hl hR hlo hS h1 h2
  obtain ⟨b0, hw0, -⟩ := hG.1
  have hRm : fr2 + 1 ≤ R.frames ∧ 8 + (L2 + 11) + lw2 ≤ R.locals := ⟨by rw [rf1]; exact Nat.le_of_ble_eq_true hroom.1, by rw [rf2]; exact Nat.le_of_ble_eq_true hroom.2.1⟩
  have cw : va_CU R s args own CC owner index x y b2 L2 r2 (ws_ y b2 L2 r2) { frames := fr2, cells := mc2, slots := ms2, locals := lw2 } mc2 ms2 As.length := by
    rcases hz with hz | hz | ⟨hz, b1, m1, r1, hz1⟩
    · exact va_cwU As.length hts (lw_U q1 q2 q3 q4 q5 q6) rfl rfl rfl hz hd hRm
    · exact va_cwA As.length hts (lw_U q1 q2 q3 q4 q5 q6) rfl rfl rfl (va_Nw.warmD hds.1 (va_Nw.of rfl (hw0 _ hz))) hd hRm
    · refine va_cwO As.length hts (lw_app ?_ (lw_meth q6)) rfl rfl rfl hz1 hd hRm
      intro w hw
      simp only [List.mem_cons, List.not_mem_nil, or_false] at hw
      rcases hw with e | e | e | e | e | e
      · rw [e]; exact q1
      · rw [e]; exact q2
      · rw [e]; exact hz
      · rw [e]; exact q3
      · rw [e]; exact q4
      · rw [e]; exact q5
  refine x_ran (va_runU (mc := mc2) (ms := ms2) (As := As.map tV) (rest := st.map tV) (b := a) (g := F0 m pc ls ((As.reverse ++ vA (some a) :: st).map tV)) ⟨hx, hb, hml, ho, hts⟩ hM cw ⟨Pg.blind, x_recv hds hG hR hkd hcl, Pg.at hds hR.srm hlo hS⟩ rfl (List.length_map _) hl.1 ?_ (lv_room (by rw [sum_tV]; exact Nat.le_of_ble_eq_true hroom.2.2)) d ⟨by rw [rf3]; have := hle.1; omega, by rw [rf4]; have := hle.2; omega⟩) hl rfl hS h1 h2 hle.1 hle.2 hds (fun v h' hq => kk v h' _ hq rfl)
  show (As.reverse ++ vA (some a) :: st).map tV = (As.map tV).reverse ++ Value.ref a :: st.map tV
  rw [List.map_append, List.map_reverse]
  rfl
/-- super.y(..) -/
theorem x_cSU (C : Cx l D s0 cc own mn nL fr lw mc ms ret Q K) (t : Nat) {index : Nat} (nxt : Nat) {y : MethodName} {b2 : ByteArray} {L2 : Nat} {r2 : Option FieldType} {fr2 lw2 mc2 ms2 : Nat} {CC : String} {r : Option Nat} (As st : List SV) {Q2 : Option SV → AH → Prop} (d : decode cc pc = .ok (.invokespecial index, 3)) (hnx : pc + 3 = nxt)
    (hM : OKm l D s0 y b2 L2 r2 fr2 lw2 (vA (some (adr r)) :: As) (h.srm mc2 ms2) Q2) (hle : mc2 ≤ h.rc ∧ ms2 ≤ h.rs) (q1 : Cond.methodLink own index y ∈ lw_all) (q2 : Cond.sameMethod y.cls y.cls y.name y.desc ∈ lw_all) (q3 : Cond.superclass own y.cls ∈ lw_all) (q4 : Cond.instanceMethod y ∈ lw_all) (q5 : Cond.initialized y.cls ∈ lw_all) (q6 : Cond.code y b2 L2 r2 ∈ lw_all)
    (hcl : (CL t).map (fun i => i.1) = some CC) (hd : y.name ≠ "<init>" ∧ (parseMethodDescriptor y.desc).map (fun d => d.parameters.length) = some As.length) (hroom : Nat.ble (fr2 + 1) fr = true ∧ Nat.ble (8 + (L2 + 11) + lw2) lw = true ∧ Nat.ble (st.map wd).sum 8 = true) (hn : nn h r t)
    (kk : ∀ v h' h2, Q2 v h' → h2 = h'.srm (h.rc - mc2) (h.rs - ms2) → K nxt L (v.toList ++ st) h2) : K pc L (As.reverse ++ vA r :: st) h := by
  obtain ⟨p, e, R, s, m, args, below, meth, c, Z, hx, hb, hml, ho, hts, hds, hG, ⟨rf1, rf2, rf3, rf4⟩, hr, hz2, rfl⟩ := C
  subst hnx
  obtain ⟨a, rfl, hkd⟩ := hn
  intro H locs ls hl hR hlo hS h1 h2
  obtain ⟨i, hi, hCC⟩ := Option.map_eq_some_iff.mp hcl
  have hat := (hds.kn hG hi).2
  rw [hCC] at hat
  have cw := va_cwSU (R := R) (mc := mc2) (ms := ms2) (rm := { frames := fr2, cells := mc2, slots := ms2, locals := lw2 }) As.length hts (lw_SU q1 q2 q3 q4 q5 q6) rfl rfl rfl hd ⟨by rw [rf1]; exact Nat.le_of_ble_eq_true hroom.1, by rw [rf2]; exact Nat.le_of_ble_eq_true hroom.2.1⟩
  refine x_ran (va_runSU (mc := mc2) (ms := ms2) (As := As.map tV) (rest := st.map tV) (b := a) (g := F0 m pc ls ((As.reverse ++ vA (some a) :: st).map tV)) hat ⟨hx, hb, hml, ho, hts⟩ hM cw ⟨Pg.blind, x_recv hds hG hR hkd hcl, Pg.at hds hR.srm hlo hS⟩ rfl (List.length_map _) hl.1 ?_ (lv_room (by rw [sum_tV]; exact Nat.le_of_ble_eq_true hroom.2.2)) d ⟨by rw [rf3]; have := hle.1; omega, by rw [rf4]; have := hle.2; omega⟩) hl rfl hS h1 h2 hle.1 hle.2 hds (fun v h' hq => kk v h' _ hq rfl)
  show (As.reverse ++ vA (some a) :: st).map tV = (As.map tV).reverse ++ Value.ref a :: st.map tV
  rw [List.map_append, List.map_reverse]
  rfl
/-- a call through an interface, the receiver of the kind t -/
theorem x_cF (C : Cx l D s0 cc own mn nL fr lw mc ms ret Q K) (t : Nat) {index count : Nat} (nxt : Nat) {x y : MethodName} {b2 : ByteArray} {L2 : Nat} {r2 : Option FieldType} {fr2 lw2 mc2 ms2 : Nat} {CC : String} {r : Option Nat} (As st : List SV) {Q2 : Option SV → AH → Prop} (d : decode cc pc = .ok (.invokeinterface index count, 5)) (hnx : pc + 5 = nxt)
    (hM : OKm l D s0 y b2 L2 r2 fr2 lw2 (vA (some (adr r)) :: As) (h.srm mc2 ms2) Q2) (hle : mc2 ≤ h.rc ∧ ms2 ≤ h.rs) (q1 : Cond.methodLink own index x ∈ lw_all) (q3 : Cond.selects CC x y ∈ lw_all) (q4 : Cond.instanceMethod y ∈ lw_all) (q5 : Cond.initialized y.cls ∈ lw_all) (q6 : Cond.code y b2 L2 r2 ∈ lw_all)
    (f1 : Cond.declares x ∈ lw_tbl) (f2 : Cond.interfaceMethod x.cls x.cls x.name x.desc ∈ lw_tbl) (f3 : Cond.publicMethod y ∈ lw_tbl) (f4 : Cond.unhidden CC x.name x.desc ∈ lw_tbl) (f5 : Cond.castable CC x.cls ∈ lw_tbl)
    (hcl : (CL t).map (fun i => i.1) = some CC) (hd : x.cls ≠ "java/lang/invoke/MethodHandle" ∧ x.cls ≠ "java/lang/invoke/VarHandle" ∧ (parseMethodDescriptor x.desc).map (fun d => d.parameters.length) = some As.length) (hroom : Nat.ble (fr2 + 1) fr = true ∧ Nat.ble (8 + (L2 + 11) + lw2) lw = true ∧ Nat.ble (st.map wd).sum 8 = true) (hn : nn h r t)
    (kk : ∀ v h' h2, Q2 v h' → h2 = h'.srm (h.rc - mc2) (h.rs - ms2) → K nxt L (v.toList ++ st) h2) : K pc L (As.reverse ++ vA r :: st) h := by
  obtain ⟨p, e, R, s, m, args, below, meth, c, Z, hx, hb, hml, ho, hts, hds, hG, ⟨rf1, rf2, rf3, rf4⟩, hr, hz2, rfl⟩ := C
  subst hnx
  obtain ⟨a, rfl, hkd⟩ := hn
  intro H locs ls hl hR hlo hS h1 h2
  obtain ⟨b0, hw0, -⟩ := hG.1
  obtain ⟨i, hi, hCC⟩ := Option.map_eq_some_iff.mp hcl
  have hat := (hds.kn hG hi).2
  rw [hCC] at hat
  have hF : va_Fw CC x y s := va_Fw.moved ⟨hd.1, hd.2.1⟩ hds.1.alike (va_Fw.of (hw0 _ f1) (hw0 _ f2) (hw0 _ f3) (hw0 _ f4) (hw0 _ f5))
  have cw := va_cwF (R := R) (mc := mc2) (ms := ms2) (rm := { frames := fr2, cells := mc2, slots := ms2, locals := lw2 }) As.length hts (lw_F q1 q3 q4 q5 q6) rfl rfl rfl hF hd ⟨by rw [rf1]; exact Nat.le_of_ble_eq_true hroom.1, by rw [rf2]; exact Nat.le_of_ble_eq_true hroom.2.1⟩
  refine x_ran5 (va_runF (mc := mc2) (ms := ms2) (As := As.map tV) (rest := st.map tV) (b := a) (g := F0 m pc ls ((As.reverse ++ vA (some a) :: st).map tV)) hat ⟨hx, hb, hml, ho, hts⟩ hM cw ⟨Pg.blind, x_recv hds hG hR hkd hcl, Pg.at hds hR.srm hlo hS⟩ rfl (List.length_map _) hl.1 ?_ (lv_room (by rw [sum_tV]; exact Nat.le_of_ble_eq_true hroom.2.2)) d ⟨by rw [rf3]; have := hle.1; omega, by rw [rf4]; have := hle.2; omega⟩) hl rfl hS h1 h2 hle.1 hle.2 hds (fun v h' hq => kk v h' _ hq rfl)
  show (As.reverse ++ vA (some a) :: st).map tV = (As.map tV).reverse ++ Value.ref a :: st.map tV
  rw [List.map_append, List.map_reverse]
  rfl
end ROWS10
/-- an array's contents are other ones -/
def AH.wai (h : AH) (a : Nat) (f : Nat → Int32) : AH := AH.mk h.kd h.fi h.fl h.fr (fun b => if b = a then f else h.ai b) h.al h.ar h.sz h.rc h.rs h.bs
def AH.war (h : AH) (a : Nat) (f : Nat → Option Nat) : AH := AH.mk h.kd h.fi h.fl h.fr h.ai h.al (fun b => if b = a then f else h.ar b) h.sz h.rc h.rs h.bs
theorem wai_at (h : AH) (a : Nat) (f : Nat → Int32) : (h.wai a f).ai a = f := if_pos rfl
theorem war_at (h : AH) (a : Nat) (f : Nat → Option Nat) : (h.war a f).ar a = f := if_pos rfl
theorem Ch.wai {h : AH} {a : Nat} {f : Nat → Int32} : Ch h (h.wai a f) a := by
  refine ⟨rfl, rfl, rfl, rfl, rfl, fun ty G b hb => rfl, fun ty b hb => ?_⟩
  cases ty <;> first | rfl | exact congrArg (fun f => ((h.kd b).2, Sum.inl f)) (if_neg hb)
theorem Ch.war {h : AH} {a : Nat} {f : Nat → Option Nat} : Ch h (h.war a f) a := by
  refine ⟨rfl, rfl, rfl, rfl, rfl, fun ty G b hb => rfl, fun ty b hb => ?_⟩
  cases ty <;> first | rfl | exact congrArg (fun f => ((h.kd b).2, Sum.inr (Sum.inr (Sum.inr (Sum.inr f))))) (if_neg hb)
/-- what System.arraycopy asks: two arrays of the kind t, the stretches within -/
def cpk (h : AH) (t : Nat) (r1 : Option Nat) (sp : Int32) (r2 : Option Nat) (dp n : Int32) : Prop := ∃ a0 a, r1 = some a0 ∧ r2 = some a ∧ (h.kd a0).1 = t ∧ (h.kd a).1 = t ∧ ¬ sp < 0 ∧ ¬ dp < 0 ∧ ¬ n < 0 ∧ ni sp + ni n ≤ (h.kd a0).2 ∧ ni dp + ni n ≤ (h.kd a).2
theorem nn_int {z : Int32} (hz : ¬ z < 0) : z.toInt = (z.toNatClampNeg : Int) := by
  have hz0 : (0 : Int) ≤ z.toInt := by
    have := Int32.not_lt.mp hz
    simpa using Int32.le_iff_toInt_le.mp this
  show z.toInt = ((z.toInt.toNat : Nat) : Int)
  omega
/-- an object of one of the kinds that Object[] may hold -/
def anyO (h : AH) (y : Nat) : Prop := stk 44 (h.kd y).1 = true
section ROWS11
variable {l : Launch} {D : va_G} {s0 : S0} {cc : ByteArray} {own mn : String} {nL fr lw mc ms : Nat} {ret : Option FieldType} {Q : Option SV → AH → Prop} {K : KT}
variable {pc : Nat} {L : List (Nat × SV)} {h : AH}
theorem x_copyI (C : Cx l D s0 cc own mn nL fr lw mc ms ret Q K) (t : Nat) {ty : FieldType} {index : Nat} (nxt : Nat) (st : List SV) {sp dp n : Int32} {r1 r2 : Option Nat} (d : decode cc pc = .ok (.invokestatic index, 3)) (hn : pc + 3 = nxt) (hc : AR t = some ty) (hty : ∀ (h : AH) (a : Nat), acont ty h a = ((h.kd a).2, .inl (h.ai a))) (hprim : refKind ty = false) (q1 : Cond.methodLink own index arraycopyName ∈ lw_all) (q2 : Cond.native arraycopyName ∈ lw_all) (q3 : Cond.static arraycopyName ∈ lw_all) (q4 : Cond.initialized "java/lang/System" ∈ lw_all)
    (hroom : Nat.ble 1 fr = true ∧ Nat.ble ((st.map wd).sum + (nativeFrameWords "java/lang/System" "arraycopy" 5 + 11)) lw = true) (hk : cpk h t r1 sp r2 dp n) (hro : ROk t = false ∨ h.lo ≤ adr r2) (hfit : ∀ i, i < ni n → fits ty (.int (h.ai (adr r1) (ni sp + i))) = true)
    (k : ∀ h1, h1 = h.wai (adr r2) (va_cpy (h.ai (adr r1)) (h.ai (adr r2)) (ni sp) (ni dp) (ni n)) → K nxt L st h1) : K pc L (vI n :: vI dp :: vA r2 :: vI sp :: vA r1 :: st) h := by
  obtain ⟨p, e, R, s, m, args, below, meth, c, Z, hx, hb, hml, ho, hts, hds, hG, ⟨rf1, rf2, rf3, rf4⟩, hr, hz2, rfl⟩ := C
  subst hn
  replace k := k _ rfl
  obtain ⟨a0, a, rfl, rfl, kd0, kd1, g1, g2, g3, g4, g5⟩ := hk
  intro H locs ls hl hR hlo hS h1 h2
  have hA0 : AR (h.kd a0).1 = some ty := by rw [kd0]; exact hc
  have hA1 : AR (h.kd a).1 = some ty := by rw [kd1]; exact hc
  obtain ⟨cell0, hc0, w1, w2, w3, w4, -⟩ : aO h.lo a0 H (arrV (D.1 (h.kd a0).1) (h.kd a0).2 (fun j => .int (h.ai a0 j))) := by
    have := (hR.2.2.2 a0).2 _ hA0
    rw [hty] at this; exact this
  have hc1 : H[a]? = some (arrV (D.1 (h.kd a).1) (h.kd a).2 (fun j => .int (h.ai a j))) := by
    have := ((hR.2.2.2 a).2 _ hA1).get (hro.elim (fun q => hR.2.2.1 a (by rw [kd1]; exact q)) (fun q => q))
    rw [hty] at this; exact this
  have hloa : Lo s0 a := by
    refine hR.free hlo ?_ ?_
    · first | exact CL_ne hc | exact AR_ne hA | exact AR_ne hA1
    · rcases hro with q | q
      · exact hR.2.2.1 a (by rw [kd1]; exact q)
      · exact q
  obtain ⟨-, k0, hk0, cm0, hkk0⟩ := isArr_of w1 w4 ((hds.ar hG hA0).1 (h.kd a0).2 (fun j => .int (h.ai a0 j)))
  obtain ⟨-, k1, hk1, cm1, hkk1⟩ := (hds.ar hG hA1).1 (h.kd a).2 (fun j => .int (h.ai a j))
  intro T hT X
  obtain ⟨vm', X', step⟩ := X.arraycopy hx ho (hts _ q1) (hts _ q2) (hts _ q3) (hts _ q4) (src := a0) (dst := a) (cs := cell0) (cd := arrV (D.1 (h.kd a).1) (h.kd a).2 (fun j => .int (h.ai a j))) (srcPos := sp) (destPos := dp) (n := n) (by rw [hT]; exact hc0) (by rw [hT]; exact hc1)
    w4 (fun _ h => by cases h) w3 (fun h => by cases h) hk0 hk1 hkk0 hkk1 (by simp [hprim]) g1 g2 g3
    (by rw [nn_int g1, nn_int g3, w2, arrV_size]; unfold ni at g4; omega)
    (by rw [nn_int g2, nn_int g3, arrV_size]; unfold ni at g5; omega)
    (fun vm₁ _ i hi => by
      have e : cell0.slots.getD (sp.toNatClampNeg + i) .null = .int (h.ai a0 (sp.toNatClampNeg + i)) := by
        rw [w2, Array.getD_eq_getD_getElem?, arrV_read _ _ (by unfold ni at g4; omega)]
        rfl
      refine ⟨?_, ?_⟩
      · rw [e]
        exact hfit i hi
      · rw [e]
        exact trivial)
    (g := F0 m pc ls (.int n :: .int dp :: .ref a :: .int sp :: .ref a0 :: st.map tV)) rfl (by rw [hml]; exact hl.1) (rest := st.map tV) rfl (by rw [hb]; exact d) (by rw [rf1]; exact Nat.le_of_ble_eq_true hroom.1) (by have := Nat.le_of_ble_eq_true hroom.2; rw [sum_tV, rf2]; show 2 * 0 + _ + _ ≤ _; omega)
  have e1 : copied cell0 (arrV (D.1 (h.kd a).1) (h.kd a).2 (fun j => .int (h.ai a j))) sp dp n = arrV (D.1 (h.kd a).1) (h.kd a).2 (fun j => .int (va_cpy (h.ai a0) (h.ai a) (ni sp) (ni dp) (ni n) j)) := va_copiedX (fun z => .int z) cell0 _ (h.ai a0) (h.ai a) (fun j hj => by rw [w2]; exact arrV_read _ _ hj) g4
  rw [e1] at X' step
  have hla : a < H.size := (Array.getElem?_eq_some_iff.mp hc1).1
  generalize hcell : arrV (D.1 (h.kd a).1) (h.kd a).2 (fun j => .int (va_cpy (h.ai a0) (h.ai a) (ni sp) (ni dp) (ni n) j)) = nc at X' step
  have hheap : ((T.setVm vm').setCell a nc).heap = H.setIfInBounds a nc := by rw [← hT]; rfl
  have oq : ∀ q : Nat, q ≠ a → (H.setIfInBounds a nc)[q]? = H[q]? := fun q hq => by simp [Array.getElem?_setIfInBounds, Ne.symm hq]
  have hat : (H.setIfInBounds a nc)[a]? = some nc := by simp [Array.getElem?_setIfInBounds, hla]
  obtain ⟨t', a1, b1⟩ := k (H.setIfInBounds a nc) _ ls hl (hR.ch Ch.wai (by simp) oq ⟨fun i' hi' => by
      have : CL (h.kd a).1 = some i' := hi'
      rw [AR_CL hA1] at this; exact absurd this (by simp), fun ty' hty' => by
      have hty2 : AR (h.kd a).1 = some ty' := hty'
      cases hA1.symm.trans hty2
      refine aO.of ?_
      show (H.setIfInBounds a nc)[a]? = _
      rw [hat, hty, ← hcell]
      show some _ = some (arrV (D.1 (h.kd a).1) (h.kd a).2 (fun j => .int ((h.wai a (va_cpy (h.ai a0) (h.ai a) (ni sp) (ni dp) (ni n))).ai a j)))
      rw [wai_at]⟩) hlo ⟨by simp; exact hS.1, fun q g1 g2 => by
      rw [oq q (fun e => g2 (by rw [e]; exact hloa))]
      exact hS.2.1 q g1 g2, fun q hq => by
      rcases List.mem_append.mp hq with h | h
      · exact hS.2.2 q h
      · obtain ⟨z, -, hz⟩ := List.mem_map.mp h
        rw [← hz]
        exact hloa⟩ h1 h2 _ hheap X'
  exact ⟨t', step t' a1, b1⟩
theorem x_copyA (C : Cx l D s0 cc own mn nL fr lw mc ms ret Q K) {index : Nat} (nxt : Nat) (st : List SV) {sp dp n : Int32} {r1 r2 : Option Nat} (d : decode cc pc = .ok (.invokestatic index, 3)) (hn : pc + 3 = nxt) (q1 : Cond.methodLink own index arraycopyName ∈ lw_all) (q2 : Cond.native arraycopyName ∈ lw_all) (q3 : Cond.static arraycopyName ∈ lw_all) (q4 : Cond.initialized "java/lang/System" ∈ lw_all)
    (hroom : Nat.ble 1 fr = true ∧ Nat.ble ((st.map wd).sum + (nativeFrameWords "java/lang/System" "arraycopy" 5 + 11)) lw = true) (hk : cpk h 44 r1 sp r2 dp n) (hel : ∀ i, i < ni n → ∀ y, h.ar (adr r1) (ni sp + i) = some y → anyO h y)
    (k : ∀ h1, h1 = h.war (adr r2) (va_cpy (h.ar (adr r1)) (h.ar (adr r2)) (ni sp) (ni dp) (ni n)) → K nxt L st h1) : K pc L (vI n :: vI dp :: vA r2 :: vI sp :: vA r1 :: st) h := by
  obtain ⟨p, e, R, s, m, args, below, meth, c, Z, hx, hb, hml, ho, hts, hds, hG, ⟨rf1, rf2, rf3, rf4⟩, hr, hz2, rfl⟩ := C
  subst hn
  replace k := k _ rfl
  obtain ⟨a0, a, rfl, rfl, kd0, kd1, g1, g2, g3, g4, g5⟩ := hk
  intro H locs ls hl hR hlo hS h1 h2
  have hA0 : AR (h.kd a0).1 = some (.object "java/lang/Object") := by rw [kd0]; rfl
  have hA1 : AR (h.kd a).1 = some (.object "java/lang/Object") := by rw [kd1]; rfl
  have hc0 : H[a0]? = some (arrV (D.1 (h.kd a0).1) (h.kd a0).2 (fun j => va_rf (h.ar a0 j))) := hR.arr hA0 (by rw [kd0]; rfl)
  have hc1 : H[a]? = some (arrV (D.1 (h.kd a).1) (h.kd a).2 (fun j => va_rf (h.ar a j))) := hR.arr hA1 (by rw [kd1]; rfl)
  have hloa : Lo s0 a := by
    refine hR.free hlo ?_ ?_
    · first | exact AR_ne hA | exact AR_ne hA1
    · exact hR.2.2.1 a (by rw [kd1]; rfl)
  obtain ⟨-, k0, hk0, cm0, hkk0⟩ := (hds.ar hG hA0).1 (h.kd a0).2 (fun j => va_rf (h.ar a0 j))
  obtain ⟨-, k1, hk1, cm1, hkk1⟩ := (hds.ar hG hA1).1 (h.kd a).2 (fun j => va_rf (h.ar a j))
  obtain ⟨b0, hw0, -⟩ := hG.1
  intro T hT X
  obtain ⟨vm', X', step⟩ := X.arraycopy hx ho (hts _ q1) (hts _ q2) (hts _ q3) (hts _ q4) (src := a0) (dst := a) (cs := arrV (D.1 (h.kd a0).1) (h.kd a0).2 (fun j => va_rf (h.ar a0 j))) (cd := arrV (D.1 (h.kd a).1) (h.kd a).2 (fun j => va_rf (h.ar a j))) (srcPos := sp) (destPos := dp) (n := n) (by rw [hT]; exact hc0) (by rw [hT]; exact hc1)
    (fun _ h => by cases h) (fun _ h => by cases h) (fun h => by cases h) (fun h => by cases h) hk0 hk1 hkk0 hkk1 rfl g1 g2 g3
    (by rw [nn_int g1, nn_int g3, arrV_size]; unfold ni at g4; omega)
    (by rw [nn_int g2, nn_int g3, arrV_size]; unfold ni at g5; omega)
    (fun vm₁ hal i hi => by
      have e : (arrV (D.1 (h.kd a0).1) (h.kd a0).2 (fun j => va_rf (h.ar a0 j))).slots.getD (sp.toNatClampNeg + i) .null = va_rf (h.ar a0 (sp.toNatClampNeg + i)) := by
        rw [Array.getD_eq_getD_getElem?, arrV_read _ _ (by unfold ni at g4; omega)]
        rfl
      rw [e]
      cases hy : h.ar a0 (sp.toNatClampNeg + i) with
      | none => exact ⟨rfl, trivial⟩
      | some y =>
        obtain ⟨EC, CC, z1, z2, z3⟩ := stk_ok (hel i hi y hy)
        cases (show AR 44 = some (.object "java/lang/Object") from rfl).symm.trans z1
        obtain ⟨cellV, v1, v2, v3⟩ := x_recv hds hG hR rfl z2
        obtain ⟨c0, t0, f1, f2, f3⟩ := Cond.castable_spec (va_Nw.use (A := args) rfl (va_Nw.warmC hds.1 (va_Nw.of rfl (hw0 _ z3))))
        cases v3.symm.trans f1
        obtain ⟨kA, comp, r1, r2, r3, -⟩ := (hds.ar hG hA1).2 (fun q => absurd (FieldType.object.inj q) (by decide))
        cases hk1.symm.trans r1
        cases hkk1.symm.trans r2
        cases r3.symm.trans f2
        obtain ⟨kE, hkE, -⟩ := Vm.findClass_spec f2
        obtain ⟨kC, hkC, -⟩ := Vm.findClass_spec f1
        obtain ⟨kC', hkC', -⟩ := hal.2.2 _ _ hkC
        obtain ⟨kE', hkE', -⟩ := hal.2.2 _ _ hkE
        refine ⟨rfl, cellV, (show T.heap[y]? = some cellV by rw [hT]; exact v1), (fun q h => by rw [h] at v2; cases v2), ⟨kC', hkC'⟩, ?_, ?_⟩
        · exact ⟨kE', hkE'⟩
        · show vm₁.assignable _ _ = true
          rw [hal.assignable]
          exact f3)
    (g := F0 m pc ls (.int n :: .int dp :: .ref a :: .int sp :: .ref a0 :: st.map tV)) rfl (by rw [hml]; exact hl.1) (rest := st.map tV) rfl (by rw [hb]; exact d) (by rw [rf1]; exact Nat.le_of_ble_eq_true hroom.1) (by have := Nat.le_of_ble_eq_true hroom.2; rw [sum_tV, rf2]; show 2 * 0 + _ + _ ≤ _; omega)
  have e1 : copied (arrV (D.1 (h.kd a0).1) (h.kd a0).2 (fun j => va_rf (h.ar a0 j))) (arrV (D.1 (h.kd a).1) (h.kd a).2 (fun j => va_rf (h.ar a j))) sp dp n = arrV (D.1 (h.kd a).1) (h.kd a).2 (fun j => va_rf (va_cpy (h.ar a0) (h.ar a) (ni sp) (ni dp) (ni n) j)) := va_copied (fun z => va_rf z) _ _ (h.ar a0) (h.ar a) g4
  rw [e1] at X' step
  have hla : a < H.size := (Array.getElem?_eq_some_iff.mp hc1).1
  generalize hcell : arrV (D.1 (h.kd a).1) (h.kd a).2 (fun j => va_rf (va_cpy (h.ar a0) (h.ar a) (ni sp) (ni dp) (ni n) j)) = nc at X' step
  have hheap : ((T.setVm vm').setCell a nc).heap = H.setIfInBounds a nc := by rw [← hT]; rfl
  have oq : ∀ q : Nat, q ≠ a → (H.setIfInBounds a nc)[q]? = H[q]? := fun q hq => by simp [Array.getElem?_setIfInBounds, Ne.symm hq]
  have hat : (H.setIfInBounds a nc)[a]? = some nc := by simp [Array.getElem?_setIfInBounds, hla]
  obtain ⟨t', a1, b1⟩ := k (H.setIfInBounds a nc) _ ls hl (hR.ch Ch.war (by simp) oq ⟨fun i' hi' => by
      have : CL (h.kd a).1 = some i' := hi'
      rw [AR_CL hA1] at this; exact absurd this (by simp), fun ty' hty' => by
      have hty2 : AR (h.kd a).1 = some ty' := hty'
      cases hA1.symm.trans hty2
      refine aO.of ?_
      show (H.setIfInBounds a nc)[a]? = _
      rw [hat, ← hcell]
      show some _ = some (arrV (D.1 (h.kd a).1) (h.kd a).2 (fun j => va_rf ((h.war a (va_cpy (h.ar a0) (h.ar a) (ni sp) (ni dp) (ni n))).ar a j)))
      rw [war_at]⟩) hlo ⟨by simp; exact hS.1, fun q g1 g2 => by
      rw [oq q (fun e => g2 (by rw [e]; exact hloa))]
      exact hS.2.1 q g1 g2, fun q hq => by
      rcases List.mem_append.mp hq with h | h
      · exact hS.2.2 q h
      · obtain ⟨z, -, hz⟩ := List.mem_map.mp h
        rw [← hz]
        exact hloa⟩ h1 h2 _ hheap X'
  exact ⟨t', step t' a1, b1⟩
end ROWS11
/-! statics that nobody writes; constants -/
theorem DS.z {s0 : S0} {s : State} {C n d : String} {v : Value} (hds : DS s0 s) (h : va_Z C n d v (Lo s0) s0.1 s0.1.heap) : va_Z C n d v (Lo s0) s s.heap :=
  (h.moved hds.1.alike).kept (fun a ha hA => hds.2.2 a ha)
theorem lo_old {s0 : S0} : ∀ a : Nat, a < s0.1.heap.size → ¬ Lo s0 a := fun a ha h => absurd h.1 (Nat.not_le.mpr ha)
theorem z_int {D : va_G} {s0 : S0} (hG : G0 D s0) {C n d : String} {z : Int32} (h1 : Cond.laysStatic C n d ∈ lw_tbl) (h2 : Cond.initialized C ∈ lw_all) (h3 : Cond.eq (.static C n d) (.int z) ∈ flatC (Jvm.Cond.and given_1 narrow_1)) : va_Z C n d (.int z) (Lo s0) s0.1 s0.1.heap := by
  obtain ⟨b0, hw0, hg⟩ := hG.1
  exact va_Zof (hw0 _ h1) (hw0 _ (lw_all_tbl h2)) (va_eqi (flat_of_before _ hg _ h3)) lo_old
theorem z_ref {D : va_G} {s0 : S0} (hG : G0 D s0) {C n d : String} (j : Nat) (hj : Nat.blt j 600 = true) (hc : ctm j = .static C n d) (h1 : Cond.laysStatic C n d ∈ lw_tbl) (h2 : Cond.initialized C ∈ lw_all) (h3 : Cond.isRef (.static C n d) ∈ flatC (Jvm.Cond.and given_1 narrow_1) ∨ ∃ E, Cond.exactly (.static C n d) E ∈ flatC (Jvm.Cond.and given_1 narrow_1)) : va_Z C n d (va_rf (sref (csOf s0 j))) (Lo s0) s0.1 s0.1.heap := by
  obtain ⟨b0, hw0, hg⟩ := hG.1
  have hev : ∃ v, (Term.static C n d).eval #[Value.ref b0] s0.1 none [] s0.1 = some v ∧ (v = .null ∨ ∃ a, v = .ref a) := by
    rcases h3 with h3 | ⟨E, h3⟩
    · obtain ⟨v, hv, hr⟩ := Cond.isRef_spec (flat_of_before _ hg _ h3)
      refine ⟨v, hv, ?_⟩
      cases v <;> first | exact Or.inl rfl | exact Or.inr ⟨_, rfl⟩ | (simp [Value.isRef] at hr)
    · obtain ⟨a, c0, cA, kA, w1, -⟩ := Cond.exactly_spec (args := #[Value.ref b0]) (first := s0.1) (o := none) (s := s0.1) (idx := []) (t := .static C n d) (cls := E) (flat_of_before _ hg _ h3)
      exact ⟨.ref a, w1, Or.inr ⟨a, rfl⟩⟩
  obtain ⟨v, hv, hr⟩ := hev
  have hcs : csOf s0 j = csEnc (some v) := by
    unfold csOf
    rw [if_pos (blt_lt hj), hc]
    have : (Term.static C n d).eval #[] s0.1 none [] s0.1 = some v := hv
    rw [this]
  have hz := va_Zof (A := Lo s0) (hw0 _ h1) (hw0 _ (lw_all_tbl h2)) hv lo_old
  rw [hcs]
  rcases hr with rfl | ⟨a, rfl⟩
  · exact hz
  · exact hz
section ROWS12
variable {l : Launch} {D : va_G} {s0 : S0} {cc : ByteArray} {own mn : String} {nL fr lw mc ms : Nat} {ret : Option FieldType} {Q : Option SV → AH → Prop} {K : KT}
variable {pc : Nat} {L : List (Nat × SV)} {st : List SV} {h : AH}
theorem x_gets (C : Cx l D s0 cc own mn nL fr lw mc ms ret Q K) {index : Nat} (nxt : Nat) {CC n dd : String} {v : SV} (d : decode cc pc = .ok (.getstatic index, 3)) (hn : pc + 3 = nxt) (hz : G0 D s0 → va_Z CC n dd (tV v) (Lo s0) s0.1 s0.1.heap) (q1 : Cond.fieldLink own index CC n dd ∈ lw_all) (k : K nxt L (v :: st) h) : K pc L st h := by
  obtain ⟨p, e, R, s, m, args, below, meth, c, Z, hx, hb, hml, ho, hts, hds, hG, hRm, hr, hz2, rfl⟩ := C
  subst hn
  intro H locs ls hl hR hlo hS h1 h2
  exact va_gets hx hb (hds.z (hz hG)) hS ho (hts _ q1) (fun _ h => h) d (k H locs ls hl hR hlo hS h1 h2)
/-- a static reference, by its place among the constants -/
theorem x_getsR (C : Cx l D s0 cc own mn nL fr lw mc ms ret Q K) (j : Nat) {index : Nat} (nxt : Nat) {CC n dd : String} (d : decode cc pc = .ok (.getstatic index, 3)) (hn : pc + 3 = nxt) (hz : G0 D s0 → va_Z CC n dd (va_rf (sref (csOf s0 j))) (Lo s0) s0.1 s0.1.heap) (q1 : Cond.fieldLink own index CC n dd ∈ lw_all) (k : K nxt L (vA (sref (h.cs j)) :: st) h) : K pc L st h := by
  obtain ⟨p, e, R, s, m, args, below, meth, c, Z, hx, hb, hml, ho, hts, hds, hG, hRm, hr, hz2, rfl⟩ := C
  subst hn
  intro H locs ls hl hR hlo hS h1 h2
  have hcs : h.cs j = csOf s0 j := by
    show h.bs.2 j = _
    rw [hlo]; rfl
  have kz := k H locs ls hl hR hlo hS h1 h2
  rw [hcs] at kz
  exact va_gets hx hb (hds.z (hz hG)) hS ho (hts _ q1) (fun _ h => h) d kz
/-- a String constant -/
theorem x_ldcS (C : Cx l D s0 cc own mn nL fr lw mc ms ret Q K) (j : Nat) {index : Nat} (nxt : Nat) {tx : String} (d : decode cc pc = .ok (.ldc index, 2)) (hn : pc + 2 = nxt) (hj : Nat.blt j 600 = true) (hc : ctm j = .string own index) (q1 : Cond.stringRef own index tx ∈ lw_tbl) (hex : Cond.exactly (.string own index) "java/lang/String" ∈ flatC (Jvm.Cond.and given_1 narrow_1)) (k : K nxt L (vA (sref (h.cs j)) :: st) h) : K pc L st h := by
  obtain ⟨p, e, R, s, m, args, below, meth, c, Z, hx, hb, hml, ho, hts, hds, hG, hRm, hr, hz2, rfl⟩ := C
  subst hn
  intro H locs ls hl hR hlo hS h1 h2
  obtain ⟨b0, hw0, hg⟩ := hG.1
  obtain ⟨a, c0, cA, kA, w1, -⟩ := Cond.exactly_spec (args := #[Value.ref b0]) (first := s0.1) (o := none) (s := s0.1) (idx := []) (t := .string own index) (cls := "java/lang/String") (flat_of_before _ hg _ hex)
  have hR0 : vk_R own index tx a s0.1 := vk_R.of (hw0 _ q1) w1
  have hcs : h.cs j = a + 1 := by
    show h.bs.2 j = _
    rw [hlo]
    show csOf s0 j = _
    unfold csOf
    rw [if_pos (blt_lt hj), hc, hR0.2]
    rfl
  have kz := k H locs ls hl hR hlo hS h1 h2
  rw [hcs] at kz
  exact va_ldcS hx hb ho (hR0.warm hds.1) d kz
end ROWS12
