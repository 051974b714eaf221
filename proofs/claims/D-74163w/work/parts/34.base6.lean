/-! BASE 6: private methods of a class above, class objects -/
set_option maxRecDepth 100000
section ROWS15
variable {l : Launch} {D : va_G} {s0 : S0} {cc : ByteArray} {own mn : String} {nL fr lw mc ms : Nat} {ret : Option FieldType} {Q : Option SV → AH → Prop} {K : KT}
variable {pc : Nat} {L : List (Nat × SV)} {st : List SV} {h : AH}
theorem sel_private {CC : String} {y z : MethodName} {s : State} {args : Array Value} {c : ClassId} (hy : y.cls ≠ "java/lang/invoke/MethodHandle" ∧ y.cls ≠ "java/lang/invoke/VarHandle")
    (hc : s.vm.findClass CC = some c) (hz : (Cond.selects CC z z).before args s = true) (hzy : z.cls = y.cls) (hpriv : (Cond.privateMethod y).before args s = true) (hinst : (Cond.instanceMethod y).before args s = true) :
    (Cond.selects CC y y).before args s = true := by
  obtain ⟨mk, methM, hnamed, hmethM, -, -⟩ := Cond.instanceMethod_spec hinst
  obtain ⟨c2, r2, m2, -, -, q3, -, k, hk, hni⟩ := Cond.selects_spec hz
  have hfound : s.methodFound? y.cls y.name y.desc = some mk := State.methodFound?_of_named hnamed hy
  have hcls : m2.cls = mk.cls := by
    have h1 := findClass_of_methodNamed q3
    have h2 := findClass_of_methodNamed hnamed
    rw [hzy] at h1
    exact Option.some.inj (h1.symm.trans h2)
  rw [hcls] at hk
  have hsel : selectMethod {} s.vm c mk = .method mk := selectMethod_private hmethM (Cond.privateMethod_at hpriv mk methM hnamed hmethM)
  simp only [Cond.before, Cond.holds, Cond.value, hc, hfound, hnamed, hsel, hk]
  simp; exact hni
/-- a private method of the class above -/
theorem x_cP (C : Cx l D s0 cc own mn nL fr lw mc ms ret Q K) (t : Nat) {index : Nat} (nxt : Nat) {y z : MethodName} {b2 : ByteArray} {L2 : Nat} {r2 : Option FieldType} {fr2 lw2 mc2 ms2 : Nat} {CC : String} {r : Option Nat} (As st : List SV) {Q2 : Option SV → AH → Prop} (d : decode cc pc = .ok (.invokevirtual index, 3)) (hnx : pc + 3 = nxt)
    (hM : OKm l D s0 y b2 L2 r2 fr2 lw2 (vA (some (adr r)) :: As) (h.srm mc2 ms2) Q2) (hle : mc2 ≤ h.rc ∧ ms2 ≤ h.rs) (q1 : Cond.methodLink own index y ∈ lw_all) (q2 : Cond.sameMethod y.cls y.cls y.name y.desc ∈ lw_all) (q3 : Cond.selects CC z z ∈ lw_all) (qp : Cond.privateMethod y ∈ lw_tbl) (q4 : Cond.instanceMethod y ∈ lw_all) (q5 : Cond.initialized y.cls ∈ lw_all) (q6 : Cond.code y b2 L2 r2 ∈ lw_all)
    (hzy : z.cls = y.cls) (hcl : (CL t).map (fun i => i.1) = some CC) (hd : y.cls ≠ "java/lang/invoke/MethodHandle" ∧ y.cls ≠ "java/lang/invoke/VarHandle" ∧ (parseMethodDescriptor y.desc).map (fun d => d.parameters.length) = some As.length) (hroom : Nat.ble (fr2 + 1) fr = true ∧ Nat.ble (8 + (L2 + 11) + lw2) lw = true ∧ Nat.ble (st.map wd).sum 8 = true) (hn : nn h r t)
    (kk : ∀ v h' h2, Q2 v h' → h2 = h'.srm (h.rc - mc2) (h.rs - ms2) → K nxt L (v.toList ++ st) h2) : K pc L (As.reverse ++ vA r :: st) h := by
  obtain ⟨p, e, R, s, m, args, below, meth, c, Z, hx, hb, hml, ho, hts, hds, hG, ⟨rf1, rf2, rf3, rf4⟩, hr, hz2, rfl⟩ := C
  subst hnx
  obtain ⟨a, rfl, hkd⟩ := hn
  intro H locs ls hl hR hlo hS h1 h2
  obtain ⟨b0, hw0, -⟩ := hG.1
  have hRm : fr2 + 1 ≤ R.frames ∧ 8 + (L2 + 11) + lw2 ≤ R.locals := ⟨by rw [rf1]; exact Nat.le_of_ble_eq_true hroom.1, by rw [rf2]; exact Nat.le_of_ble_eq_true hroom.2.1⟩
  obtain ⟨cellB, g1, g2, g3⟩ := x_recv hds hG hR hkd hcl
  have hsel : (Cond.selects CC y y).before args s = true := sel_private ⟨hd.1, hd.2.1⟩ g3 (hts _ q3) hzy (Cond.privateMethod_warm hds.1 (hw0 _ qp)) (hts _ q4)
  have hG2 := lw_meth q6
  have cw : va_CU R s args own CC y.cls index y y b2 L2 r2 (ws_ y b2 L2 r2) { frames := fr2, cells := mc2, slots := ms2, locals := lw2 } mc2 ms2 As.length := by
    refine ⟨⟨rfl, rfl, hRm.1, hRm.2, pay_in hts hG2, List.mem_cons_self⟩, hts _ q6, hts _ q5, ⟨hd.1, hd.2.1⟩, fun sig hs => ?_, hts _ q1, hts _ q2, va_Decl.of (hts _ q4) (hts _ q6), hsel, hts _ q4⟩
    have h3 := hd.2.2
    rw [hs] at h3
    exact (Option.some.inj h3).symm
  refine x_ran (va_runU (mc := mc2) (ms := ms2) (As := As.map tV) (rest := st.map tV) (b := a) (g := F0 m pc ls ((As.reverse ++ vA (some a) :: st).map tV)) ⟨hx, hb, hml, ho, hts⟩ hM cw ⟨Pg.blind, x_recv hds hG hR hkd hcl, Pg.at hds hR.srm hlo hS⟩ rfl (List.length_map _) hl.1 ?_ (lv_room (by rw [sum_tV]; exact Nat.le_of_ble_eq_true hroom.2.2)) d ⟨by rw [rf3]; have := hle.1; omega, by rw [rf4]; have := hle.2; omega⟩) hl rfl hS h1 h2 hle.1 hle.2 hds (fun v h' hq => kk v h' _ hq rfl)
  show (As.reverse ++ vA (some a) :: st).map tV = (As.map tV).reverse ++ Value.ref a :: st.map tV
  rw [List.map_append, List.map_reverse]
  rfl
theorem x_mir {s : State} (hds : DS s0 s) (hG : G0 D s0) (hex : Cond.isRef (.mirror "[Ljava/lang/Object;") ∈ flatC (Jvm.Cond.and given_1 narrow_1)) : ∃ mi : Nat, va_Mi "[Ljava/lang/Object;" mi s ∧ csOf s0 501 = mi + 1 := by
  obtain ⟨b0, hw0, hg⟩ := hG.1
  obtain ⟨v, hv, -⟩ := Cond.isRef_spec (flat_of_before _ hg _ hex)
  obtain ⟨c, k, a, h1, h2, h3, h4⟩ := Term.mirror_spec hv
  have hm : va_Mi "[Ljava/lang/Object;" a s0.1 := ⟨c, k, h1, h2, h3⟩
  refine ⟨a, hm.moved hds.1.alike, ?_⟩
  unfold csOf
  rw [if_pos (by decide)]
  have : (ctm 501).eval #[] s0.1 none [] s0.1 = some (.ref a) := by rw [← h4]; exact hv
  rw [this]
  rfl
theorem x_ldcM (C : Cx l D s0 cc own mn nL fr lw mc ms ret Q K) {index : Nat} (nxt : Nat) (d : decode cc pc = .ok (.ldc index, 2)) (hn : pc + 2 = nxt) (q1 : Cond.classLink own index "[Ljava/lang/Object;" ∈ lw_all) (hex : Cond.isRef (.mirror "[Ljava/lang/Object;") ∈ flatC (Jvm.Cond.and given_1 narrow_1)) (k : K nxt L (vA (sref (h.cs 501)) :: st) h) : K pc L st h := by
  obtain ⟨p, e, R, s, m, args, below, meth, c, Z, hx, hb, hml, ho, hts, hds, hG, hRm, hr, hz2, rfl⟩ := C
  subst hn
  intro H locs ls hl hR hlo hS h1 h2
  obtain ⟨mi, hm, hcs0⟩ := x_mir hds hG hex
  have hcs : h.cs 501 = mi + 1 := by
    show h.bs.2 501 = _
    rw [hlo]
    exact hcs0
  have kz := k H locs ls hl hR hlo hS h1 h2
  rw [hcs] at kz
  exact va_ldcM hx hb ho (hts _ q1) hm d kz
theorem x_getC (C : Cx l D s0 cc own mn nL fr lw mc ms ret Q K) {index : Nat} {r : Option Nat} (nxt : Nat) (st : List SV) (d : decode cc pc = .ok (.invokevirtual index, 3)) (hn : pc + 3 = nxt) (q1 : Cond.methodLink own index ⟨"java/lang/Object", "getClass", "()Ljava/lang/Class;"⟩ ∈ lw_all) (q2 : Cond.declares ⟨"java/lang/Object", "getClass", "()Ljava/lang/Class;"⟩ ∈ lw_tbl) (q3 : Cond.selects "[Ljava/lang/Object;" ⟨"java/lang/Object", "getClass", "()Ljava/lang/Class;"⟩ ⟨"java/lang/Object", "getClass", "()Ljava/lang/Class;"⟩ ∈ lw_all) (q4 : Cond.instanceMethod ⟨"java/lang/Object", "getClass", "()Ljava/lang/Class;"⟩ ∈ lw_all) (q5 : Cond.native ⟨"java/lang/Object", "getClass", "()Ljava/lang/Class;"⟩ ∈ lw_all)
    (hex : Cond.isRef (.mirror "[Ljava/lang/Object;") ∈ flatC (Jvm.Cond.and given_1 narrow_1)) (hroom : Nat.ble 1 fr = true ∧ Nat.ble ((st.map wd).sum + 14) lw = true) (hr : nn h r 44) (k : K nxt L (vA (sref (h.cs 501)) :: st) h) : K pc L (vA r :: st) h := by
  obtain ⟨p, e, R, s, m, args, below, meth, c, Z, hx, hb, hml, ho, hts, hds, hG, ⟨rf1, rf2, rf3, rf4⟩, hrr, hz2, rfl⟩ := C
  subst hn
  intro H locs ls hl hR hlo hS h1 h2
  obtain ⟨a, rfl, hkd⟩ := hr
  obtain ⟨mi, hm, hcs0⟩ := x_mir hds hG hex
  obtain ⟨b0, hw0, -⟩ := hG.1
  have hcs : h.cs 501 = mi + 1 := by
    show h.bs.2 501 = _
    rw [hlo]
    exact hcs0
  have kz := k H locs ls hl hR hlo hS h1 h2
  rw [hcs] at kz
  obtain ⟨cell, g1, g2, g3⟩ := x_cellA (nm := "[Ljava/lang/Object;") hds hG hR hkd rfl (fun _ _ q => va_nmO q rfl) (fun q => absurd (FieldType.object.inj q) (by decide))
  have hl1 := Nat.le_of_ble_eq_true hroom.2
  exact va_getC hx hb (by rw [hml]; exact hl.1.symm) ho (hts _ q1) (va_Dc.use ((va_Dc.of (hw0 _ q2)).moved hds.1.alike)) (hts _ q3) (hts _ q4) (hts _ q5) hm ⟨cell, g1, g2, g3⟩ (by rw [rf1]; exact Nat.le_of_ble_eq_true hroom.1) (by rw [sum_tV, rf2]; omega) d kz
theorem x_mx : Cond.isRef (.mirror "[Ljava/lang/Object;") ∈ flatC (Jvm.Cond.and given_1 narrow_1) := by decide +kernel
end ROWS15
