/-! BASE 2: rows for objects: new cells, references, casts, constructors, nest mates -/
set_option maxRecDepth 100000
theorem CL_nf : ∀ (t : Nat) (i : String × u_T × Nat × (Nat → FieldType)), CL t = some i → ∀ k, k < i.2.2.1 → i.2.2.2 k ≠ .float ∧ i.2.2.2 k ≠ .double := by
  intro t i h
  unfold CL at h
  split at h <;> first | (cases h; decide) | cases h
theorem fval_new {ty : FieldType} {h : AH} {t n m F : Nat} (h1 : ty ≠ .float ∧ ty ≠ .double) : tV (fval ty (h.new t n m) F h.sz) = defaultValue ty := by
  cases ty <;> first | exact congrArg Value.int (if_pos rfl) | exact congrArg Value.long (if_pos rfl) | exact (congrArg va_rf (if_pos rfl)).trans rfl | exact absurd rfl h1.1 | exact absurd rfl h1.2
theorem fval_old {ty : FieldType} {h : AH} {t n m F a : Nat} (ha : a ≠ h.sz) : fval ty (h.new t n m) F a = fval ty h F a := by
  cases ty <;> first | exact congrArg vI (if_neg ha) | exact congrArg vJ (if_neg ha) | exact congrArg vA (if_neg ha)
theorem acont_old {ty : FieldType} {h : AH} {t n m a : Nat} (ha : a ≠ h.sz) : acont ty (h.new t n m) a = acont ty h a := by
  have e0 : (h.new t n m).kd a = h.kd a := if_neg ha
  have e1 : (h.new t n m).ai a = h.ai a := funext fun _ => if_neg ha
  have e2 : (h.new t n m).al a = h.al a := funext fun _ => if_neg ha
  have e3 : (h.new t n m).ar a = h.ar a := funext fun _ => if_neg ha
  unfold acont
  rw [e0, e1, e2, e3]
theorem Rp.new {D : va_G} {H H1 : Heap} {h : AH} {t n m : Nat} (hR : Rp D H h) (z1 : H1.size = H.size + 1) (o1 : ∀ q : Nat, q < H.size → H1[q]? = H[q]?) (hlo : h.lo ≤ h.sz) (hc : cok D H1 (h.new t n m) h.sz) : Rp D H1 (h.new t n m) := by
  obtain ⟨r1, ⟨r2, r2b, r2c⟩, r3, r4⟩ := hR
  have kd0 : ∀ a, a ≠ h.sz → (h.new t n m).kd a = h.kd a := fun a ha => if_neg ha
  refine ⟨by rw [z1, r1]; rfl, ⟨fun a ha => ?_, fun a ha => ?_, fun a ha => r2c a (Nat.le_of_succ_le ha)⟩, fun a ha => ?_, fun a => ?_⟩
  · have ha' : h.sz + 1 ≤ a := ha
    rw [kd0 a (by omega)]; exact r2 a (by omega)
  · by_cases hs : a = h.sz
    · exact r2c a (by omega)
    · rw [kd0 a hs] at ha; exact r2b a ha
  · by_cases hs : a = h.sz
    · rw [hs]; exact hlo
    · rw [kd0 a hs] at ha; exact r3 a ha
  · by_cases hs : a = h.sz
    · rw [hs]; exact hc
    · by_cases hl : a < h.sz
      · obtain ⟨c1, c2⟩ := r4 a
        have hq : H1[a]? = H[a]? := o1 a (by rw [r1]; exact hl)
        refine ⟨fun i hi => ?_, fun ty hty => ?_⟩
        · rw [kd0 a hs] at hi ⊢
          exact ((c1 i hi).kept hq).to (fun k _ => by rw [fval_old hs])
        · rw [kd0 a hs] at hty ⊢
          rw [acont_old hs]
          exact (c2 ty hty).kept hq
      · have h0 : (h.new t n m).kd a = h.kd a := kd0 a hs
        have h1 := r2 a (by omega)
        refine ⟨fun i hi => ?_, fun ty hty => ?_⟩
        · rw [h0, h1] at hi; cases hi
        · rw [h0, h1] at hty; cases hty
/-- there is room for a new cell of m slots -/
def nr (h : AH) (m : Nat) : Prop := 1 ≤ h.rc ∧ m ≤ h.rs
/-- a length that a new array may have -/
def nl (h : AH) (x : Int32) : Prop := ¬ x < 0 ∧ ni x ≤ 100000 ∧ nr h (ni x)
section ROWS7
variable {l : Launch} {D : va_G} {s0 : S0} {cc : ByteArray} {own mn : String} {nL fr lw mc ms : Nat} {ret : Option FieldType} {Q : Option SV → AH → Prop} {K : KT}
variable {pc : Nat} {L : List (Nat × SV)} {st : List SV} {h : AH}
theorem x_recv {s : State} {H : Heap} (hds : DS s0 s) (hG : G0 D s0) (hR : Rp D H h) {a t : Nat} {CC : String} (hkd : (h.kd a).1 = t) (hcl : (CL t).map (fun i => i.1) = some CC) : ∃ cellB : Cell, H[a]? = some cellB ∧ cellB.vm.isStatics = false ∧ s.vm.findClass CC = some cellB.cls := by
  obtain ⟨i, hi, hCC⟩ := Option.map_eq_some_iff.mp hcl
  obtain ⟨cell, c1, c2, c3, -⟩ := (hR.2.2.2 a).1 i (by rw [hkd]; exact hi)
  refine ⟨cell, c1, c3.2.1, ?_⟩
  rw [c2, ← hCC, hkd]
  exact (hds.kn hG hi).2.1
theorem x_new (C : Cx l D s0 cc own mn nL fr lw mc ms ret Q K) (t : Nat) {index : Nat} (nxt : Nat) {i : String × u_T × Nat × (Nat → FieldType)} (d : decode cc pc = .ok (.new index, 3)) (hn : pc + 3 = nxt) (hc : CL t = some i) (q1 : Cond.classLink own index i.1 ∈ lw_all) (q2 : Cond.instantiable i.1 i.2.2.1 ∈ lw_all) (q3 : Cond.initialized i.1 ∈ lw_all) (hr : nr h i.2.2.1)
    (k : ∀ h1, h1 = h.new t 0 i.2.2.1 → K nxt L (vA (some h.sz) :: st) h1) : K pc L st h := by
  obtain ⟨p, e, R, s, m, args, below, meth, c, Z, hx, hb, hml, ho, hts, hds, hG, ⟨rf1, rf2, rf3, rf4⟩, hrr, hz, rfl⟩ := C
  subst hn
  replace k := k _ rfl
  intro H locs ls hl hR hlo hS h1 h2
  have hKn := hds.kn hG hc
  obtain ⟨hr1, hr2⟩ := hr
  obtain ⟨o1, o2, o3⟩ := CL_ok t i hc
  have hlosz : h.lo ≤ h.sz := by rw [lo_of hlo, ← hR.1]; exact Nat.le_trans hds.2.1 hS.1
  refine W.newcK hx hb ho (hts _ q1) (hts _ q2) (hts _ q3) rfl d (by rw [rf3]; omega) (by rw [rf4]; omega) hKn.2.1 hR.1 fun H1 kC hkC e1 z1 o1' => ?_
  have kz := k H1 locs ls hl (hR.new (t := t) (n := 0) (m := i.2.2.1) (by rw [z1, hR.1]) (by rw [hR.1]; exact o1') hlosz ⟨fun i' hi' => ?_, fun ty hty => ?_⟩) hlo ⟨Nat.le_trans hS.1 (by rw [z1, hR.1]; omega), fun x g1 g2 => (o1' x (by rw [← hR.1]; exact Nat.lt_of_lt_of_le g1 hS.1)).trans (hS.2.1 x g1 g2), hS.2.2⟩ (by show h.rc - 1 ≤ mc; omega) (by show h.rs - i.2.2.1 ≤ ms; omega)
  · have e3 : mc - (h.rc - 1) = mc - h.rc + 1 := by omega
    have e4 : ms - (h.rs - i.2.2.1) = ms - h.rs + i.2.2.1 := by omega
    have kz' : W p l e R s m args below meth c H1 locs (mc - (h.rc - 1)) (ms - (h.rs - i.2.2.1)) Z (F0 m (pc + 3) ls (Value.ref h.sz :: st.map tV)) := kz
    rw [e3, e4] at kz'
    exact kz'
  · have ek : (h.new t 0 i.2.2.1).kd h.sz = (t, 0) := if_pos rfl
    rw [ek] at hi' ⊢
    cases hc.symm.trans hi'
    exact tO.of ((u_born i.2.2.2 hts o1 hKn hkC e1 o2).to (fun j hj => (fval_new (CL_nf t i hc j hj)).symm))
  · have ek : (h.new t 0 i.2.2.1).kd h.sz = (t, 0) := if_pos rfl
    rw [ek] at hty
    rw [CL_AR hc] at hty; cases hty
theorem acont_new {ty : FieldType} {h : AH} {t n m : Nat} (cA : ClassId) (h1 : ty ≠ .float ∧ ty ≠ .double) : vp_cell cA (acont ty (h.new t n m) h.sz) = arrV cA n (fun _ => defaultValue ty) := by
  have e0 : (h.new t n m).kd h.sz = (t, n) := if_pos rfl
  have e1 : (h.new t n m).ai h.sz = fun _ => 0 := funext fun _ => if_pos rfl
  have e2 : (h.new t n m).al h.sz = fun _ => 0 := funext fun _ => if_pos rfl
  have e3 : (h.new t n m).ar h.sz = fun _ => none := funext fun _ => if_pos rfl
  unfold acont
  rw [e0, e1, e2, e3]
  cases ty <;> first | rfl | exact absurd rfl h1.1 | exact absurd rfl h1.2
theorem x_newa (C : Cx l D s0 cc own mn nL fr lw mc ms ret Q K) (t : Nat) {atype : ArrayType} (nxt : Nat) {x : Int32} (d : decode cc pc = .ok (.newarray atype, 2)) (hn : pc + 2 = nxt) (hc : AR t = some (newarray.typeOf atype)) (hf : newarray.typeOf atype ≠ .float ∧ newarray.typeOf atype ≠ .double) (hcb : componentBytes (newarray.typeOf atype) ≤ 8) (hra : ∀ (U : State) (cA : ClassId), va_RA U cA (newarray.typeOf atype) → U.vm.findClass ("[" ++ (newarray.typeOf atype).toString) = some cA) (q1 : Cond.arrayClass (newarray.typeOf atype) ∈ lw_all) (hr : nl h x)
    (k : ∀ h1, h1 = h.new t (ni x) (ni x) → K nxt L (vA (some h.sz) :: st) h1) : K pc L (vI x :: st) h := by
  obtain ⟨p, e, R, s, m, args, below, meth, c, Z, hx, hb, hml, ho, hts, hds, hG, ⟨rf1, rf2, rf3, rf4⟩, hrr, hz, rfl⟩ := C
  subst hn
  replace k := k _ rfl
  intro H locs ls hl hR hlo hS h1 h2
  obtain ⟨hx0, hxl, hr1, hr2⟩ := hr
  have hlosz : h.lo ≤ h.sz := by rw [lo_of hlo, ← hR.1]; exact Nat.le_trans hds.2.1 hS.1
  have hbytes : ni x * componentBytes (newarray.typeOf atype) ≤ 536870912 := Nat.le_trans (Nat.mul_le_mul hxl hcb) (by decide)
  refine va_newaK hx hb (hts _ q1) rfl d rfl hx0 (N := ni x) rfl hbytes (by rw [rf3]; omega) (by rw [rf4]; omega) hR.1 fun H1 cA e1 z1 o1 hAr hNm => ?_
  have hcA : D.1 t = cA := Option.some.inj ((hra s _ ((hds.ar hG hc).2 (by intro q; cases atype <;> (simp [newarray.typeOf] at q)))).symm.trans hNm)
  have kz := k H1 locs ls hl (hR.new (t := t) (n := ni x) (m := ni x) (by rw [z1, hR.1]) (by rw [hR.1]; exact o1) hlosz ⟨fun i' hi' => ?_, fun ty hty => ?_⟩) hlo ⟨Nat.le_trans hS.1 (by rw [z1, hR.1]; omega), fun y g1 g2 => (o1 y (by rw [← hR.1]; exact Nat.lt_of_lt_of_le g1 hS.1)).trans (hS.2.1 y g1 g2), hS.2.2⟩ (by show h.rc - 1 ≤ mc; omega) (by show h.rs - ni x ≤ ms; omega)
  · have e3 : mc - (h.rc - 1) = mc - h.rc + 1 := by omega
    have e4 : ms - (h.rs - ni x) = ms - h.rs + ni x := by omega
    have kz' : W p l e R s m args below meth c H1 locs (mc - (h.rc - 1)) (ms - (h.rs - ni x)) Z (F0 m (pc + 2) ls (Value.ref h.sz :: st.map tV)) := kz
    rw [e3, e4] at kz'
    exact kz'
  · have ek : (h.new t (ni x) (ni x)).kd h.sz = (t, ni x) := if_pos rfl
    rw [ek] at hi'
    rw [AR_CL hc] at hi'; cases hi'
  · have ek : (h.new t (ni x) (ni x)).kd h.sz = (t, ni x) := if_pos rfl
    rw [ek] at hty ⊢
    cases hc.symm.trans hty
    refine aO.of ?_
    rw [acont_new _ hf, hcA]
    exact e1
theorem x_anew (C : Cx l D s0 cc own mn nL fr lw mc ms ret Q K) (t : Nat) {index : Nat} {EC : String} (nxt : Nat) {x : Int32} (d : decode cc pc = .ok (.anewarray index, 3)) (hn : pc + 3 = nxt) (hc : AR t = some (.object EC)) (q1 : Cond.classLink own index EC ∈ lw_all) (q2 : Cond.arrayOver (.object EC) ∈ lw_tbl) (hr : nl h x)
    (k : ∀ h1, h1 = h.new t (ni x) (ni x) → K nxt L (vA (some h.sz) :: st) h1) (hne : EC ≠ "java/lang/Integer" := by decide) : K pc L (vI x :: st) h := by
  obtain ⟨p, e, R, s, m, args, below, meth, c, Z, hx, hb, hml, ho, hts, hds, hG, ⟨rf1, rf2, rf3, rf4⟩, hrr, hz, rfl⟩ := C
  subst hn
  replace k := k _ rfl
  intro H locs ls hl hR hlo hS h1 h2
  obtain ⟨hx0, hxl, hr1, hr2⟩ := hr
  obtain ⟨b0, hw0, -⟩ := hG.1
  have hlosz : h.lo ≤ h.sz := by rw [lo_of hlo, ← hR.1]; exact Nat.le_trans hds.2.1 hS.1
  have hbytes : ni x * 4 ≤ 536870912 := Nat.le_trans (Nat.mul_le_mul hxl (Nat.le_refl 4)) (by decide)
  refine W.anew hx hb ho (hts _ q1) (va_AO.use (va_AO.moved hds.1.alike (va_AO.of (hw0 _ q2)))) rfl d rfl hx0 hbytes (by rw [rf3]; show mc - h.rc + 1 ≤ mc; omega) (by rw [rf4]; show ms - h.rs + ni x ≤ ms; omega) fun cA kA comp f1 f2 f3 f4 => ?_
  generalize hH1 : H.push ({ cls := cA, slots := Array.replicate x.toNatClampNeg .null, vm := .none } : Cell) = H1
  have z1 : H1.size = H.size + 1 := by rw [← hH1, Array.size_push]
  have e1 : H1[H.size]? = some (arrV cA x.toNatClampNeg (fun _ => .null)) := by rw [← hH1, Array.getElem?_push_size, ← arrV_new]
  have o1 : ∀ q : Nat, q < H.size → H1[q]? = H[q]? := fun q hq => by rw [← hH1, Array.getElem?_push, if_neg (Nat.ne_of_lt hq)]
  have hcA : D.1 t = cA := by
    obtain ⟨kA', comp', -, -, -, g4⟩ := (hds.ar hG hc).2 (fun q => hne (FieldType.object.inj q))
    exact Option.some.inj (g4.symm.trans f1)
  have kz := k H1 locs ls hl (hR.new (t := t) (n := ni x) (m := ni x) z1 o1 hlosz ⟨fun i' hi' => ?_, fun ty hty => ?_⟩) hlo ⟨Nat.le_trans hS.1 (by rw [z1]; omega), fun y g1 g2 => (o1 y (Nat.lt_of_lt_of_le g1 hS.1)).trans (hS.2.1 y g1 g2), hS.2.2⟩ (by show h.rc - 1 ≤ mc; omega) (by show h.rs - ni x ≤ ms; omega)
  · have e3 : mc - (h.rc - 1) = mc - h.rc + 1 := by omega
    have e4 : ms - (h.rs - ni x) = ms - h.rs + ni x := by omega
    have kz' : W p l e R s m args below meth c H1 locs (mc - (h.rc - 1)) (ms - (h.rs - ni x)) Z (F0 m (pc + 3) ls (Value.ref h.sz :: st.map tV)) := kz
    rw [e3, e4, ← hR.1] at kz'
    exact kz'
  · have ek : (h.new t (ni x) (ni x)).kd h.sz = (t, ni x) := if_pos rfl
    rw [ek] at hi'
    rw [AR_CL hc] at hi'; cases hi'
  · have ek : (h.new t (ni x) (ni x)).kd h.sz = (t, ni x) := if_pos rfl
    rw [ek] at hty ⊢
    cases hc.symm.trans hty
    refine aO.of ?_
    rw [acont_new _ ⟨fun q => (by cases q), fun q => (by cases q)⟩, hcA, ← hR.1]
    exact e1
theorem x_alen (C : Cx l D s0 cc own mn nL fr lw mc ms ret Q K) (t : Nat) (nxt : Nat) {ty : FieldType} {r : Option Nat} (d : decode cc pc = .ok (.arraylength, 1)) (hn : pc + 1 = nxt) (hc : AR t = some ty) (hr : nn h r t) (k : K nxt L (vI (nI (h.kd (adr r)).2) :: st) h) : K pc L (vA r :: st) h := by
  obtain ⟨p, e, R, s, m, args, below, meth, c, Z, hx, hb, hml, ho, hts, hds, hG, hRm, hrr, hz, rfl⟩ := C
  subst hn
  obtain ⟨a, rfl, hkd⟩ := hr
  intro H locs ls hl hR hlo hS h1 h2
  have hA : AR (h.kd a).1 = some ty := by rw [hkd]; exact hc
  have hcell := (hR.2.2.2 a).2 _ hA
  have hAr := (hds.ar hG hA).1
  have key : ∀ (x : (Nat → Int32) ⊕ (Nat → Int64) ⊕ (Nat → UInt32) ⊕ (Nat → UInt64) ⊕ (Nat → Option Nat)), aO h.lo a H (vp_cell (D.1 (h.kd a).1) ((h.kd a).2, x)) → W p l e R s m args below meth c H locs (mc - h.rc) (ms - h.rs) Z (F0 m pc ls (Value.ref a :: st.map tV)) := by
    intro x hc2
    obtain ⟨cell, hc2, g1, g2, g3, g4, -⟩ := hc2
    have kz := k H locs ls hl hR hlo hS h1 h2
    rcases x with f | f | f | f | f
    · exact W.alen (n := nI (h.kd a).2) hx hb hc2 (isArr_of g1 g4 (hAr (h.kd a).2 (fun j => .int (f j)))) (by rw [g2, vp_cell_i, arrV_size] <;> rfl) rfl rfl d kz
    · exact W.alen (n := nI (h.kd a).2) hx hb hc2 (isArr_of g1 g4 (hAr (h.kd a).2 (fun j => .long (f j)))) (by rw [g2, vp_cell_l, arrV_size] <;> rfl) rfl rfl d kz
    · exact W.alen (n := nI (h.kd a).2) hx hb hc2 (isArr_of g1 g4 (hAr (h.kd a).2 (fun j => .float (f j)))) (by rw [g2, vp_cell_f, arrV_size] <;> rfl) rfl rfl d kz
    · exact W.alen (n := nI (h.kd a).2) hx hb hc2 (isArr_of g1 g4 (hAr (h.kd a).2 (fun j => .double (f j)))) (by rw [g2, vp_cell_d, arrV_size] <;> rfl) rfl rfl d kz
    · exact W.alen (n := nI (h.kd a).2) hx hb hc2 (isArr_of g1 g4 (hAr (h.kd a).2 (fun j => va_rf (f j)))) (by rw [g2, vp_cell_q, arrV_size] <;> rfl) rfl rfl d kz
  exact key _ hcell
theorem x_aald (C : Cx l D s0 cc own mn nL fr lw mc ms ret Q K) (t : Nat) {EC : FieldType} {i : Int32} {r : Option Nat} (nxt : Nat) (d : decode cc pc = .ok (.aaload, 1)) (hn : pc + 1 = nxt) (hc : AR t = some EC) (hEC : EC.isReference = true ∧ ∀ (h : AH) (a : Nat), acont EC h a = ((h.kd a).2, .inr (.inr (.inr (.inr (h.ar a)))))) (hi : ix h r t i) (k : K nxt L (vA (h.ar (adr r) (ni i)) :: st) h) : K pc L (vI i :: vA r :: st) h := by
  obtain ⟨p, e, R, s, m, args, below, meth, c, Z, hx, hb, hml, ho, hts, hds, hG, hRm, hr, hz, rfl⟩ := C
  subst hn
  obtain ⟨a, rfl, hkd, hin⟩ := hi
  intro H locs ls hl hR hlo hS h1 h2
  have hA : AR (h.kd a).1 = some EC := by rw [hkd]; exact hc
  obtain ⟨cell, hcell, g1, g2, g3, g4, -⟩ : aO h.lo a H (arrV (D.1 (h.kd a).1) (h.kd a).2 (fun j => va_rf (h.ar a j))) := by
    have := (hR.2.2.2 a).2 _ hA
    rw [hEC.2] at this
    exact this
  have hlt : i.toNatClampNeg < (h.kd a).2 := Nat.not_le.mp fun q => hin (Or.inr q)
  exact W.aald (v := va_rf (h.ar a i.toNatClampNeg)) (ty := EC) hx hb hcell (isArr_of g1 g4 ((hds.ar hG hA).1 (h.kd a).2 (fun j => va_rf (h.ar a j)))) hEC.1 g3 (by rw [g2, arrV_size]; exact hin) (by rw [g2, arrV_read _ _ hlt]) rfl rfl d (k H locs ls hl hR hlo hS h1 h2)
end ROWS7
/-- which objects may be stored in which arrays of references -/
def stk (t u : Nat) : Bool := match t with
  | 44 => u == 22 || u == 6 || u == 7 || u == 15 || u == 25
  | 46 => u == 8 || u == 9 || u == 10 || u == 11 || u == 12
  | _ => false
theorem stk_ok {t u : Nat} (h : stk t u = true) : ∃ EC CC, AR t = some (.object EC) ∧ (CL u).map (fun i => i.1) = some CC ∧ Cond.castable CC EC ∈ lw_tbl := by
  unfold stk at h
  split at h
  · simp only [Bool.or_eq_true, beq_iff_eq] at h
    rcases h with (((rfl | rfl) | rfl) | rfl) | rfl
    · exact ⟨_, _, rfl, rfl, q2934⟩
    · exact ⟨_, _, rfl, rfl, q2939⟩
    · exact ⟨_, _, rfl, rfl, q2940⟩
    · exact ⟨_, _, rfl, rfl, q2950⟩
    · exact ⟨_, _, rfl, rfl, q2948⟩
  · simp only [Bool.or_eq_true, beq_iff_eq] at h
    rcases h with (((rfl | rfl) | rfl) | rfl) | rfl
    · exact ⟨_, _, rfl, rfl, q2958⟩
    · exact ⟨_, _, rfl, rfl, q2959⟩
    · exact ⟨_, _, rfl, rfl, q2960⟩
    · exact ⟨_, _, rfl, rfl, q2961⟩
    · exact ⟨_, _, rfl, rfl, q2962⟩
  · cases h
def sto (h : AH) (r : Option Nat) (t : Nat) : Prop := r = none ∨ ∃ a, r = some a ∧ stk t (h.kd a).1 = true
/-- r is null or an object of the kind t -/
def ca (h : AH) (r : Option Nat) (t : Nat) : Prop := r = none ∨ nn h r t
section ROWS8
variable {l : Launch} {D : va_G} {s0 : S0} {cc : ByteArray} {own mn : String} {nL fr lw mc ms : Nat} {ret : Option FieldType} {Q : Option SV → AH → Prop} {K : KT}
variable {pc : Nat} {L : List (Nat × SV)} {st : List SV} {h : AH}
theorem x_aast (C : Cx l D s0 cc own mn nL fr lw mc ms ret Q K) (t : Nat) {EC : String} {i : Int32} {x : Option Nat} {r : Option Nat} (nxt : Nat) (d : decode cc pc = .ok (.aastore, 1)) (hn : pc + 1 = nxt) (hc : AR t = some (.object EC)) (hro : ROk t = false) (hi : ix h r t i) (hst : sto h x t) (k : ∀ h1, h1 = h.sar (adr r) (ni i) x → K nxt L st h1) (hne : EC ≠ "java/lang/Integer" := by decide) : K pc L (vA x :: vI i :: vA r :: st) h := by
  obtain ⟨p, e, R, s, m, args, below, meth, c, Z, hx, hb, hml, ho, hts, hds, hG, hRm, hr, hz, rfl⟩ := C
  subst hn
  replace k := k _ rfl
  obtain ⟨a, rfl, hkd, hin⟩ := hi
  intro H locs ls hl hR hlo hS h1 h2
  have hA : AR (h.kd a).1 = some (.object EC) := by rw [hkd]; exact hc
  have hcell : H[a]? = some (arrV (D.1 (h.kd a).1) (h.kd a).2 (fun j => va_rf (h.ar a j))) := hR.arr hA (by rw [hkd]; exact hro)
  have hloa : Lo s0 a := by
    refine hR.free hlo ?_ ?_
    · first | exact AR_ne hA | exact AR_ne hA1
    · exact hR.2.2.1 a (by rw [hkd]; exact hro)
  have hlt : i.toNatClampNeg < (h.kd a).2 := Nat.not_le.mp fun q => hin (Or.inr q)
  have h0 : ¬ i < 0 := fun q => hin (Or.inl q)
  have fin : ∀ H1 : Heap, H1[a]? = some ((arrV (D.1 (h.kd a).1) (h.kd a).2 (fun j => va_rf (h.ar a j))).setSlot i.toNatClampNeg (va_rf x)) → H1.size = H.size → (∀ q, q ≠ a → H1[q]? = H[q]?) → W p l e R s m args below meth c H1 (locs ++ [⟨a, i.toNatClampNeg⟩]) (mc - h.rc) (ms - h.rs) Z (F0 m (pc + 1) ls (st.map tV)) := by
    intro H1 e1 e2 e3
    refine k H1 _ ls hl (hR.ch Ch.sar e2 e3 ⟨fun i' hi' => ?_, fun ty hty => ?_⟩) hlo (hS.put e2 e3 hloa) h1 h2
    · have : CL (h.kd a).1 = some i' := hi'
      rw [AR_CL hA] at this; cases this
    · have hty' : AR (h.kd a).1 = some ty := hty
      cases hA.symm.trans hty'
      refine aO.of ?_
      show H1[a]? = _
      rw [e1]
      show some _ = some (vp_cell (D.1 (h.kd a).1) _)
      congr 1
      show (arrV _ _ _).setSlot _ _ = arrV (D.1 (h.kd a).1) (h.kd a).2 (fun j => va_rf ((h.sar a (ni i) x).ar a j))
      rw [arrV_store]
      congr 1
      funext q
      by_cases hq : q = i.toNatClampNeg
      · subst hq
        simp [updV, AH.sar, AH.mk, AH.ar, up2, ni]
      · simp [updV, AH.sar, AH.mk, AH.ar, up2, ni, hq]
  rcases hst with rfl | ⟨v, rfl, hv⟩
  · exact va_WaastN (C := EC) hx hb hcell ((hds.ar hG hA).1 (h.kd a).2 (fun j => va_rf (h.ar a j))) (fun h => by cases h) (by show ¬ (i < 0 ∨ (arrV _ _ _).slots.size ≤ _); rw [arrV_size]; exact hin) rfl rfl d fin
  · obtain ⟨EC', CC, g1, g2, g3⟩ := stk_ok hv
    cases hc.symm.trans g1
    obtain ⟨b0, hw0, -⟩ := hG.1
    obtain ⟨c0, t0, f1, f2, f3⟩ := Cond.castable_spec (va_Nw.use (A := args) rfl (va_Nw.warmC hds.1 (va_Nw.of rfl (hw0 _ g3))))
    obtain ⟨cellV, v1, v2, v3⟩ := x_recv hds hG hR rfl g2
    cases v3.symm.trans f1
    obtain ⟨kA, comp, k1, k2, k3, -⟩ := (hds.ar hG hA).2 (fun q => hne (FieldType.object.inj q))
    cases k3.symm.trans f2
    obtain ⟨ii, hii, hCC⟩ := Option.map_eq_some_iff.mp g2
    obtain ⟨-, hfc, kC, hkC, hkind⟩ := hds.kn hG hii
    obtain ⟨cell2, w1, w2, w3, -⟩ := (hR.2.2.2 v).1 ii hii
    cases v1.symm.trans w1
    have hkV : ∃ kv : Class, s.vm.classes[cellV.cls]? = some kv := ⟨kC, by rw [w2]; exact hkC⟩
    obtain ⟨kv, hkv⟩ := hkV
    have hkcomp : ∃ kc : Class, s.vm.classes[t0]? = some kc := by
      obtain ⟨kc, hkc, -⟩ := Vm.findClass_spec f2
      exact ⟨kc, hkc⟩
    obtain ⟨kc, hkc⟩ := hkcomp
    exact W.aast hx hb hcell (fun q h => by cases h) (fun h => by cases h) k1 k2 rfl hkc ⟨h0, by show _ < (arrV _ _ _).slots.size; rw [arrV_size]; exact hlt⟩ v1 (fun q h => by rw [h] at v2; cases v2) hkv f3 rfl rfl d fin
theorem x_cast (C : Cx l D s0 cc own mn nL fr lw mc ms ret Q K) (t : Nat) {index : Nat} {nm : String} {r : Option Nat} (nxt : Nat) (d : decode cc pc = .ok (.checkcast index, 3)) (hn : pc + 3 = nxt) (hc : (CL t).map (fun i => i.1) = some nm) (q1 : Cond.classLink own index nm ∈ lw_all) (hr : ca h r t) (k : K nxt L (vA r :: st) h) : K pc L (vA r :: st) h := by
  obtain ⟨p, e, R, s, m, args, below, meth, c, Z, hx, hb, hml, ho, hts, hds, hG, hRm, hrr, hz, rfl⟩ := C
  subst hn
  intro H locs ls hl hR hlo hS h1 h2
  rcases hr with rfl | ⟨a, rfl, hkd⟩
  · exact lv_castN hx hb d (k H locs ls hl hR hlo hS h1 h2)
  · obtain ⟨i, hi, hCC⟩ := Option.map_eq_some_iff.mp hc
    have hat := (hds.kn hG hi).2
    rw [hCC] at hat
    exact va_castS hx hb ho (hts _ q1) hat (x_recv hds hG hR hkd hc) d (k H locs ls hl hR hlo hS h1 h2)
theorem x_inst (C : Cx l D s0 cc own mn nL fr lw mc ms ret Q K) (t : Nat) {index : Nat} {nm : String} {r : Option Nat} (nxt : Nat) (d : decode cc pc = .ok (.instanceof index, 3)) (hn : pc + 3 = nxt) (hc : (CL t).map (fun i => i.1) = some nm) (q1 : Cond.classLink own index nm ∈ lw_all) (hr : nn h r t) (k : K nxt L (vI 1 :: st) h) : K pc L (vA r :: st) h := by
  obtain ⟨p, e, R, s, m, args, below, meth, c, Z, hx, hb, hml, ho, hts, hds, hG, hRm, hrr, hz, rfl⟩ := C
  subst hn
  intro H locs ls hl hR hlo hS h1 h2
  obtain ⟨a, rfl, hkd⟩ := hr
  obtain ⟨i, hi, hCC⟩ := Option.map_eq_some_iff.mp hc
  have hat := (hds.kn hG hi).2
  rw [hCC] at hat
  exact va_instS hx hb ho (hts _ q1) hat (x_recv hds hG hR hkd hc) d (k H locs ls hl hR hlo hS h1 h2)
/-- Object.<init> -/
theorem x_objI (C : Cx l D s0 cc own mn nL fr lw mc ms ret Q K) {index : Nat} (nxt : Nat) (st : List SV) {b : Nat} (d : decode cc pc = .ok (.invokespecial index, 3)) (hn : pc + 3 = nxt) (q1 : Cond.methodLink own index Lib.objectInit ∈ lw_all) (q2 : Cond.instanceMethod Lib.objectInit ∈ lw_all) (q3 : Cond.code Lib.objectInit ⟨#[0xb1]⟩ 1 none ∈ lw_all) (hroom : Nat.ble 1 fr = true ∧ Nat.ble ((st.map wd).sum + 12) lw = true) (k : K nxt L st h) : K pc L (vA (some b) :: st) h := by
  obtain ⟨p, e, R, s, m, args, below, meth, c, Z, hx, hb, hml, ho, hts, hds, hG, ⟨rf1, rf2, rf3, rf4⟩, hrr, hz, rfl⟩ := C
  subst hn
  intro H locs ls hl hR hlo hS h1 h2
  refine W.objInit hx hb ho (hts _ q1) (hts _ q2) (hts _ q3) rfl (by rw [hml]; exact hl.1) (a := b) (rest := st.map tV) rfl d (by rw [rf1]; exact Nat.le_of_ble_eq_true hroom.1) ?_ (k H locs ls hl hR hlo hS h1 h2)
  have := Nat.le_of_ble_eq_true hroom.2
  rw [sum_tV, rf2]
  show 2 * 0 + _ + 12 ≤ _
  omega
theorem x_cV (C : Cx l D s0 cc own mn nL fr lw mc ms ret Q K) (t : Nat) {index : Nat} (nxt : Nat) {y : MethodName} {b2 : ByteArray} {L2 : Nat} {r2 : Option FieldType} {fr2 lw2 mc2 ms2 : Nat} {CC : String} {r : Option Nat} (As st : List SV) {Q2 : Option SV → AH → Prop} (d : decode cc pc = .ok (.invokevirtual index, 3)) (hnx : pc + 3 = nxt)
    (hM : OKm l D s0 y b2 L2 r2 fr2 lw2 (vA (some (adr r)) :: As) (h.srm mc2 ms2) Q2) (hle : mc2 ≤ h.rc ∧ ms2 ≤ h.rs) (q1 : Cond.methodLink own index y ∈ lw_all) (q2 : Cond.instanceMethod y ∈ lw_all) (q3 : Cond.selects CC y y ∈ lw_all) (q4 : Cond.initialized CC ∈ lw_all) (q5 : Cond.code y b2 L2 r2 ∈ lw_all)
    (hcl : (CL t).map (fun i => i.1) = some CC) (hd : y.cls = CC ∧ y.cls ≠ "java/lang/invoke/MethodHandle" ∧ y.cls ≠ "java/lang/invoke/VarHandle" ∧ (parseMethodDescriptor y.desc).map (fun d => d.parameters.length) = some As.length) (hroom : Nat.ble (fr2 + 1) fr = true ∧ Nat.ble (8 + (L2 + 11) + lw2) lw = true ∧ Nat.ble (st.map wd).sum 8 = true) (hn : nn h r t)
    (kk : ∀ v h' h2, Q2 v h' → h2 = h'.srm (h.rc - mc2) (h.rs - ms2) → K nxt L (v.toList ++ st) h2) : K pc L (As.reverse ++ vA r :: st) h := by
  obtain ⟨a, rfl, hkd⟩ := hn
  exact x_callV C t nxt As st d hnx hM hle q1 q2 q3 q4 q5 hcl hd hroom ⟨a, rfl, hkd⟩ (fun v h' hq => kk v h' _ hq rfl)
theorem x_cS (C : Cx l D s0 cc own mn nL fr lw mc ms ret Q K) {index : Nat} (nxt : Nat) {y : MethodName} {b2 : ByteArray} {L2 : Nat} {r2 : Option FieldType} {fr2 lw2 mc2 ms2 : Nat} (As st : List SV) {Q2 : Option SV → AH → Prop} (d : decode cc pc = .ok (.invokestatic index, 3)) (hnx : pc + 3 = nxt)
    (hM : OKm l D s0 y b2 L2 r2 fr2 lw2 As (h.srm mc2 ms2) Q2) (hle : mc2 ≤ h.rc ∧ ms2 ≤ h.rs) (q1 : Cond.methodLink own index y ∈ lw_all) (q2 : Cond.static y ∈ lw_all) (q4 : Cond.initialized y.cls ∈ lw_all) (q5 : Cond.code y b2 L2 r2 ∈ lw_all)
    (hd : y.cls ≠ "java/lang/invoke/MethodHandle" ∧ y.cls ≠ "java/lang/invoke/VarHandle" ∧ (parseMethodDescriptor y.desc).map (fun d => d.parameters.length) = some As.length) (hroom : Nat.ble (fr2 + 1) fr = true ∧ Nat.ble (8 + (L2 + 11) + lw2) lw = true ∧ Nat.ble (st.map wd).sum 8 = true)
    (kk : ∀ v h' h2, Q2 v h' → h2 = h'.srm (h.rc - mc2) (h.rs - ms2) → K nxt L (v.toList ++ st) h2) : K pc L (As.reverse ++ st) h := x_callS C nxt As st d hnx hM hle q1 q2 q4 q5 hd hroom (fun v h' hq => kk v h' _ hq rfl)
/-- a constructor -/
theorem x_cI (C : Cx l D s0 cc own mn nL fr lw mc ms ret Q K) {index : Nat} (nxt : Nat) {y : MethodName} {b2 : ByteArray} {L2 fr2 lw2 mc2 ms2 : Nat} {b : Nat} (As st : List SV) {Q2 : Option SV → AH → Prop} (d : decode cc pc = .ok (.invokespecial index, 3)) (hnx : pc + 3 = nxt)
    (hM : OKm l D s0 y b2 L2 none fr2 lw2 (vA (some b) :: As) (h.srm mc2 ms2) Q2) (hle : mc2 ≤ h.rc ∧ ms2 ≤ h.rs) (q1 : Cond.methodLink own index y ∈ lw_all) (q2 : Cond.instanceMethod y ∈ lw_all) (q4 : Cond.initialized y.cls ∈ lw_all) (q5 : Cond.code y b2 L2 none ∈ lw_all)
    (hd : y.name = "<init>" ∧ y.cls ≠ "java/lang/invoke/MethodHandle" ∧ y.cls ≠ "java/lang/invoke/VarHandle" ∧ (parseMethodDescriptor y.desc).map (fun d => d.parameters.length) = some As.length) (hroom : Nat.ble (fr2 + 1) fr = true ∧ Nat.ble (8 + (L2 + 11) + lw2) lw = true ∧ Nat.ble (st.map wd).sum 8 = true)
    (kk : ∀ v h' h2, Q2 v h' → h2 = h'.srm (h.rc - mc2) (h.rs - ms2) → K nxt L (v.toList ++ st) h2) : K pc L (As.reverse ++ vA (some b) :: st) h := by
  obtain ⟨p, e, R, s, m, args, below, meth, c, Z, hx, hb, hml, ho, hts, hds, hG, ⟨rf1, rf2, rf3, rf4⟩, hr, hz, rfl⟩ := C
  subst hnx
  intro H locs ls hl hR hlo hS h1 h2
  have cw := cwI (R := R) (mc := mc2) (ms := ms2) (rm := { frames := fr2, cells := mc2, slots := ms2, locals := lw2 }) As.length hts (lw_meth q5) rfl rfl rfl (hts _ q4) (hts _ q1) (hts _ q2) hd.1 hd.2 ⟨by rw [rf1]; exact Nat.le_of_ble_eq_true hroom.1, by rw [rf2]; exact Nat.le_of_ble_eq_true hroom.2.1⟩
  refine x_ran (va_runI (mc := mc2) (ms := ms2) (As := As.map tV) (rest := st.map tV) (b := b) (g := F0 m pc ls ((As.reverse ++ vA (some b) :: st).map tV)) ⟨hx, hb, hml, ho, hts⟩ hM cw ⟨Pg.blind, Pg.at hds hR.srm hlo hS⟩ rfl (List.length_map _) hl.1 ?_ (lv_room (by rw [sum_tV]; exact Nat.le_of_ble_eq_true hroom.2.2)) d ⟨by rw [rf3]; have := hle.1; omega, by rw [rf4]; have := hle.2; omega⟩) hl rfl hS h1 h2 hle.1 hle.2 hds (fun v h' hq => kk v h' _ hq rfl)
  show (As.reverse ++ vA (some b) :: st).map tV = (As.map tV).reverse ++ Value.ref b :: st.map tV
  rw [List.map_append, List.map_reverse]
  rfl
/-- a nest mate's private constructor -/
theorem x_cIN (C : Cx l D s0 cc own mn nL fr lw mc ms ret Q K) {index : Nat} (nxt : Nat) {host : String} {y : MethodName} {b2 : ByteArray} {L2 fr2 lw2 mc2 ms2 : Nat} {b : Nat} (As st : List SV) {Q2 : Option SV → AH → Prop} (d : decode cc pc = .ok (.invokespecial index, 3)) (hnx : pc + 3 = nxt)
    (hM : OKm l D s0 y b2 L2 none fr2 lw2 (vA (some b) :: As) (h.srm mc2 ms2) Q2) (hle : mc2 ≤ h.rc ∧ ms2 ≤ h.rs) (q1 : Cond.methodLinkNest own index y host ∈ lw_tbl) (q2 : Cond.instanceMethod y ∈ lw_all) (q4 : Cond.initialized y.cls ∈ lw_all) (q5 : Cond.code y b2 L2 none ∈ lw_all)
    (hd : y.name = "<init>" ∧ y.cls ≠ "java/lang/invoke/MethodHandle" ∧ y.cls ≠ "java/lang/invoke/VarHandle" ∧ (parseMethodDescriptor y.desc).map (fun d => d.parameters.length) = some As.length) (hroom : Nat.ble (fr2 + 1) fr = true ∧ Nat.ble (8 + (L2 + 11) + lw2) lw = true ∧ Nat.ble (st.map wd).sum 8 = true)
    (kk : ∀ v h' h2, Q2 v h' → h2 = h'.srm (h.rc - mc2) (h.rs - ms2) → K nxt L (v.toList ++ st) h2) : K pc L (As.reverse ++ vA (some b) :: st) h := by
  obtain ⟨p, e, R, s, m, args, below, meth, c, Z, hx, hb, hml, ho, hts, hds, hG, ⟨rf1, rf2, rf3, rf4⟩, hr, hz, rfl⟩ := C
  subst hnx
  intro H locs ls hl hR hlo hS h1 h2
  obtain ⟨b0, hw0, -⟩ := hG.1
  have hl1 := va_Nw.warmM hds.1 (va_Nw.of rfl (hw0 _ q1))
  have cw := va_cnB (R := R) (mc := mc2) (ms := ms2) (rm := { frames := fr2, cells := mc2, slots := ms2, locals := lw2 }) As.length hts (lw_meth q5) rfl rfl rfl hl1 (hts _ q4) hd.2 ⟨by rw [rf1]; exact Nat.le_of_ble_eq_true hroom.1, by rw [rf2]; exact Nat.le_of_ble_eq_true hroom.2.1⟩
  refine x_ran (va_runIN (mc := mc2) (ms := ms2) (As := As.map tV) (rest := st.map tV) (b := b) (g := F0 m pc ls ((As.reverse ++ vA (some b) :: st).map tV)) ⟨hx, hb, hml, ho, hts⟩ hM ⟨cw, hd.1, hts _ q2⟩ ⟨Pg.blind, Pg.at hds hR.srm hlo hS⟩ rfl (List.length_map _) hl.1 ?_ (lv_room (by rw [sum_tV]; exact Nat.le_of_ble_eq_true hroom.2.2)) d ⟨by rw [rf3]; have := hle.1; omega, by rw [rf4]; have := hle.2; omega⟩) hl rfl hS h1 h2 hle.1 hle.2 hds (fun v h' hq => kk v h' _ hq rfl)
  show (As.reverse ++ vA (some b) :: st).map tV = (As.map tV).reverse ++ Value.ref b :: st.map tV
  rw [List.map_append, List.map_reverse]
  rfl
/-- a nest mate's private method -/
theorem x_cVN (C : Cx l D s0 cc own mn nL fr lw mc ms ret Q K) (t : Nat) {index : Nat} (nxt : Nat) {host : String} {y : MethodName} {b2 : ByteArray} {L2 : Nat} {r2 : Option FieldType} {fr2 lw2 mc2 ms2 : Nat} {CC : String} {r : Option Nat} (As st : List SV) {Q2 : Option SV → AH → Prop} (d : decode cc pc = .ok (.invokevirtual index, 3)) (hnx : pc + 3 = nxt)
    (hM : OKm l D s0 y b2 L2 r2 fr2 lw2 (vA (some (adr r)) :: As) (h.srm mc2 ms2) Q2) (hle : mc2 ≤ h.rc ∧ ms2 ≤ h.rs) (q1 : Cond.methodLinkNest own index y host ∈ lw_tbl) (q2 : Cond.instanceMethod y ∈ lw_all) (q3 : Cond.selects CC y y ∈ lw_all) (q4 : Cond.initialized y.cls ∈ lw_all) (q5 : Cond.code y b2 L2 r2 ∈ lw_all)
    (hcl : (CL t).map (fun i => i.1) = some CC) (hd : y.cls = CC ∧ y.cls ≠ "java/lang/invoke/MethodHandle" ∧ y.cls ≠ "java/lang/invoke/VarHandle" ∧ (parseMethodDescriptor y.desc).map (fun d => d.parameters.length) = some As.length) (hroom : Nat.ble (fr2 + 1) fr = true ∧ Nat.ble (8 + (L2 + 11) + lw2) lw = true ∧ Nat.ble (st.map wd).sum 8 = true) (hn : nn h r t)
    (kk : ∀ v h' h2, Q2 v h' → h2 = h'.srm (h.rc - mc2) (h.rs - ms2) → K nxt L (v.toList ++ st) h2) : K pc L (As.reverse ++ vA r :: st) h := by
  obtain ⟨p, e, R, s, m, args, below, meth, c, Z, hx, hb, hml, ho, hts, hds, hG, ⟨rf1, rf2, rf3, rf4⟩, hr, hz, rfl⟩ := C
  subst hnx
  obtain ⟨a, rfl, hkd⟩ := hn
  intro H locs ls hl hR hlo hS h1 h2
  obtain ⟨b0, hw0, -⟩ := hG.1
  have hl1 := va_Nw.warmM hds.1 (va_Nw.of rfl (hw0 _ q1))
  have cw := va_cnB (R := R) (mc := mc2) (ms := ms2) (rm := { frames := fr2, cells := mc2, slots := ms2, locals := lw2 }) As.length hts (lw_meth q5) rfl rfl rfl hl1 (hts _ q4) hd.2 ⟨by rw [rf1]; exact Nat.le_of_ble_eq_true hroom.1, by rw [rf2]; exact Nat.le_of_ble_eq_true hroom.2.1⟩
  refine x_ran (va_runVN (mc := mc2) (ms := ms2) (C := CC) (As := As.map tV) (rest := st.map tV) (b := a) (g := F0 m pc ls ((As.reverse ++ vA (some a) :: st).map tV)) ⟨hx, hb, hml, ho, hts⟩ hM ⟨cw, hts _ q2, hts _ q3⟩ ⟨Pg.blind, x_recv hds hG hR hkd hcl, Pg.at hds hR.srm hlo hS⟩ rfl (List.length_map _) hl.1 ?_ (lv_room (by rw [sum_tV]; exact Nat.le_of_ble_eq_true hroom.2.2)) d ⟨by rw [rf3]; have := hle.1; omega, by rw [rf4]; have := hle.2; omega⟩) hl rfl hS h1 h2 hle.1 hle.2 hds (fun v h' hq => kk v h' _ hq rfl)
  show (As.reverse ++ vA (some a) :: st).map tV = (As.map tV).reverse ++ Value.ref a :: st.map tV
  rw [List.map_append, List.map_reverse]
  rfl
/-- a nest mate's private static method -/
theorem x_cSN (C : Cx l D s0 cc own mn nL fr lw mc ms ret Q K) {index : Nat} (nxt : Nat) {host : String} {y : MethodName} {b2 : ByteArray} {L2 : Nat} {r2 : Option FieldType} {fr2 lw2 mc2 ms2 : Nat} (As st : List SV) {Q2 : Option SV → AH → Prop} (d : decode cc pc = .ok (.invokestatic index, 3)) (hnx : pc + 3 = nxt)
    (hM : OKm l D s0 y b2 L2 r2 fr2 lw2 As (h.srm mc2 ms2) Q2) (hle : mc2 ≤ h.rc ∧ ms2 ≤ h.rs) (q1 : Cond.methodLinkNest own index y host ∈ lw_tbl) (q2 : Cond.static y ∈ lw_all) (q4 : Cond.initialized y.cls ∈ lw_all) (q5 : Cond.code y b2 L2 r2 ∈ lw_all)
    (hd : y.cls ≠ "java/lang/invoke/MethodHandle" ∧ y.cls ≠ "java/lang/invoke/VarHandle" ∧ (parseMethodDescriptor y.desc).map (fun d => d.parameters.length) = some As.length) (hroom : Nat.ble (fr2 + 1) fr = true ∧ Nat.ble (8 + (L2 + 11) + lw2) lw = true ∧ Nat.ble (st.map wd).sum 8 = true)
    (kk : ∀ v h' h2, Q2 v h' → h2 = h'.srm (h.rc - mc2) (h.rs - ms2) → K nxt L (v.toList ++ st) h2) : K pc L (As.reverse ++ st) h := by
  obtain ⟨p, e, R, s, m, args, below, meth, c, Z, hx, hb, hml, ho, hts, hds, hG, ⟨rf1, rf2, rf3, rf4⟩, hr, hz, rfl⟩ := C
  subst hnx
  intro H locs ls hl hR hlo hS h1 h2
  obtain ⟨b0, hw0, -⟩ := hG.1
  have hl1 := va_Nw.warmM hds.1 (va_Nw.of rfl (hw0 _ q1))
  have cw := va_cnB (R := R) (mc := mc2) (ms := ms2) (rm := { frames := fr2, cells := mc2, slots := ms2, locals := lw2 }) As.length hts (lw_meth q5) rfl rfl rfl hl1 (hts _ q4) hd ⟨by rw [rf1]; exact Nat.le_of_ble_eq_true hroom.1, by rw [rf2]; exact Nat.le_of_ble_eq_true hroom.2.1⟩
  refine x_ran (va_runSN (mc := mc2) (ms := ms2) (As := As.map tV) (rest := st.map tV) (g := F0 m pc ls ((As.reverse ++ st).map tV)) ⟨hx, hb, hml, ho, hts⟩ hM ⟨cw, hts _ q2, trivial⟩ ⟨Pg.blind, Pg.at hds hR.srm hlo hS⟩ rfl (List.length_map _) hl.1 ?_ (lv_room (by rw [sum_tV]; exact Nat.le_of_ble_eq_true hroom.2.2)) d ⟨by rw [rf3]; have := hle.1; omega, by rw [rf4]; have := hle.2; omega⟩) hl rfl hS h1 h2 hle.1 hle.2 hds (fun v h' hq => kk v h' _ hq rfl)
  show (As.reverse ++ st).map tV = (As.map tV).reverse ++ st.map tV
  rw [List.map_append, List.map_reverse]
end ROWS8
