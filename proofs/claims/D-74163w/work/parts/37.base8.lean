/-! BASE 8: Object.equals -/
set_option maxRecDepth 100000
section ROWS20
variable {p : Program} {l : Launch} {e : Env} {R : Room} {s : State} {m : MethodId} {args : Array Value} {below : List Frame} {meth : Method} {c : Code} {T : State} {locs : List Loc} {cells slots : Nat}
def eqN : MethodName := ⟨"java/lang/Object", "equals", "(Ljava/lang/Object;)Z"⟩
theorem eqd0 : decode object_method_4_code 0 = .ok (.aload_n 0, 1) := by decide +kernel
theorem eqd1 : decode object_method_4_code 1 = .ok (.aload_n 1, 1) := by decide +kernel
theorem eqd2 : decode object_method_4_code 2 = .ok (.if_acmp (.ne) 7, 3) := by decide +kernel
theorem eqd5 : decode object_method_4_code 5 = .ok (.iconst 1, 1) := by decide +kernel
theorem eqd6 : decode object_method_4_code 6 = .ok (.goto 4, 3) := by decide +kernel
theorem eqd9 : decode object_method_4_code 9 = .ok (.iconst 0, 1) := by decide +kernel
theorem eqd10 : decode object_method_4_code 10 = .ok (.ireturn, 1) := by decide +kernel

theorem eqSteps {U target : State} {g : JFrame} {cg : Code} (h : At U g.method cg below) (hexec : p.tables.exec = Jvm.exec) {mk : MethodId} {k : Class} {mM : Method} {cM : Code} {b : Addr} {x : Value} (hx : x.isRef = true)
    {ig : Instr} {len : Nat} (acts : List Action)
    (hk : U.vm.classes[mk.cls]? = some k) (hn : k.name = "java/lang/Object") (hfin : e.platform.finalization = false)
    (hm : U.vm.method? mk = some mM) (hc : mM.code = some cM) (hbytes : cM.code = object_method_4_code) (hml : cM.maxLocals = 2) (hl : mM.locks = false) (hr : mM.sig.returnType = some .boolean)
    (hroom : e.platform.stackFull (((U.setTop g).threads[(U.setTop g).cur]?).getD { frames := [] }) (U.setTop g).frames cM.maxLocals = false)
    (hdg : decode cg.code g.pc = .ok (ig, len))
    (hrest : Steps p.tables e below (U.setTop { g with pc := g.pc + len, stack := .int (if (.ref b : Value) = x then 1 else 0) :: g.stack }) target) :
    Steps p.tables e below (doInvoke e (U.setTop g) acts mk #[.ref b, x]).1 target := by
  rw [doInvoke_enter h.top acts hm hc hl hroom]
  have hf := frames_entered (g := g) h.top (.java (entryFrame mk #[.ref b, x] cM.maxLocals))
  obtain ⟨mid, hmid⟩ := h.above
  generalize hV : (U.setTop g).pushFrame (.java (entryFrame mk #[.ref b, x] cM.maxLocals)) = V at *
  have one : ∀ (f : JFrame) {target : State}, f.method = mk → (match decode object_method_4_code f.pc with
      | .ok (i, len) => wpRun (Jvm.exec i)
          (fun _ s₁ _ => ∀ acts, Steps p.tables e below (afterInstr e len (.ok () s₁ acts)).1 target)
          (fun x s₁ _ => ∀ acts, Steps p.tables e below (afterInstr e len (.ctl x s₁ acts)).1 target) e (V.setTop f)
      | .error _ => False) → Steps p.tables e below (V.setTop f) target := by
    intro f target hfm hw
    subst hV
    refine Steps.instrOv (c := cM) (by rw [State.topJava?_of_frames hf]; rfl) ⟨.java g :: mid, by rw [hf, List.tail_cons, hmid]; rfl⟩ h.running (by simpa using h.runnable) (by simpa using h.alone)
      (by rw [State.code?_eq]; simp [State.pushFrame, State.setFrames, hfm, hm, hc]) (overridden_object p.tables (k := k) (by simpa [hfm, State.pushFrame, State.setFrames] using hk) hn hfin) ?_
    rw [hbytes, hexec]; exact hw
  have htop : V.topJava?.isSome := by rw [State.topJava?_of_frames hf]; rfl
  have hent : entryFrame mk #[.ref b, x] cM.maxLocals = { method := mk, pc := 0, locals := #[.val (.ref b), .val x], stack := [], locked := none } := by
    rw [hml]
    cases x with
    | ref y => rfl
    | null => rfl
    | _ => exact absurd hx (by simp [Value.isRef])
  rw [hent]
  refine one { method := mk, pc := 0, locals := #[.val (.ref b), .val x], stack := [], locked := none } rfl ?_
  simp [eqd0, jvm, wpRun, exec, htop]
  refine ⟨rfl, ?_⟩
  refine one { method := mk, pc := 1, locals := #[.val (.ref b), .val x], stack := [.ref b], locked := none } rfl ?_
  simp [eqd1, jvm, wpRun, exec, htop, hx]
  refine one { method := mk, pc := 2, locals := #[.val (.ref b), .val x], stack := [x, .ref b], locked := none } rfl ?_
  have ret : ∀ v : Int32, v = 0 ∨ v = 1 → v = (if (.ref b : Value) = x then 1 else 0) → Steps p.tables e below (V.setTop { method := mk, pc := 10, locals := #[.val (.ref b), .val x], stack := [.int v], locked := none }) target := by
    intro v hv01 hv
    refine one { method := mk, pc := 10, locals := #[.val (.ref b), .val x], stack := [.int v], locked := none } rfl ?_
    have hmV : V.vm.method? mk = some mM := by rw [← hV]; simpa [State.pushFrame, State.setFrames] using hm
    have hnr : narrow .boolean (.int v) = .int v := by rcases hv01 with rfl | rfl <;> rfl
    simp [eqd10, jvm, wpRun, exec, htop, hmV, hr, hnr]
    intro acts'
    rw [hent] at hf
    rw [doReturn_leave (g := g) (meth := mM) (cg := cg) (ig := ig) (len := len) acts' hf hmV hl rfl rfl
      (by have := h.code; rw [State.code?_eq] at this ⊢; rw [← hV]; simpa [State.pushFrame, State.setFrames] using this) hdg]
    rw [← hV, setFrames_entered h.top, State.setTop_setTop]
    rw [← hv] at hrest
    simpa using hrest
  cases x with
  | null =>
    simp [eqd2, jvm, wpRun, exec, htop, if_acmp.holds, Value.asRef?]
    refine one { method := mk, pc := 9, locals := #[.val (.ref b), .val .null], stack := [], locked := none } rfl ?_
    simp [eqd9, jvm, wpRun, exec, htop]
    exact ret 0 (.inl rfl) (by simp)
  | ref y =>
    by_cases hby : b = y
    · subst hby
      simp [eqd2, jvm, wpRun, exec, htop, if_acmp.holds, Value.asRef?]
      refine one { method := mk, pc := 5, locals := #[.val (.ref b), .val (.ref b)], stack := [], locked := none } rfl ?_
      simp [eqd5, jvm, wpRun, exec, htop]
      refine one { method := mk, pc := 6, locals := #[.val (.ref b), .val (.ref b)], stack := [.int 1], locked := none } rfl ?_
      simp [eqd6, jvm, wpRun, exec, htop]
      exact ret 1 (.inr rfl) (by simp)
    · simp [eqd2, jvm, wpRun, exec, htop, if_acmp.holds, Value.asRef?, hby]
      refine one { method := mk, pc := 9, locals := #[.val (.ref b), .val (.ref y)], stack := [], locked := none } rfl ?_
      simp [eqd9, jvm, wpRun, exec, htop]
      exact ret 0 (.inl rfl) (by simp [hby])
  | _ => exact absurd hx (by simp [Value.isRef])
theorem eqBack (hexec : p.tables.exec = Jvm.exec) (hcode : (Cond.code eqN object_method_4_code 2 (some .boolean)).before args s = true) (hfr : 1 ≤ R.frames) (hlo : 21 ≤ R.locals) :
    Back l R p e below s args eqN 3 8 (fun A a => ∃ b x, a = #[.ref b, x] ∧ x.isRef = true) (fun A a v B => ∃ b x, a = #[.ref b, x] ∧ v = some (.int (if (.ref b : Value) = x then 1 else 0)) ∧ B = A) := by
  rintro m meth c ⟨U, Ls, c0, s0⟩ g ig mk a X hg hsize hdg hW hn ⟨b, x, rfl, hx⟩
  dsimp only [Pt.U, Pt.locs, Pt.cells, Pt.slots] at X hn ⊢
  have hcd : (Cond.code eqN object_method_4_code 2 (some .boolean)).before args U = true := word_at X.warmed (Or.inl rfl) hcode
  obtain ⟨mM, cM, h1, h2, h3, h4, h5, h6, -, -⟩ := Cond.code_spec hn hcd
  obtain ⟨k, hk, hkn⟩ := className_of_methodNamed hn
  subst hg
  refine ⟨_, ⟨U, Ls, c0, s0⟩, X, ⟨b, x, rfl, rfl, rfl⟩, ?_⟩
  refine eqSteps X.here hexec hx [] hk hkn (Launch.admits_finalization X.admits) h1 h2 h3 h4 h6 h5 ?_ hdg (Steps.refl _)
  rw [h4]
  exact X.notFull hsize hfr (by omega)
end ROWS20
section ROWS21
variable {l : Launch} {D : va_G} {s0 : S0} {cc : ByteArray} {own mn : String} {nL fr lw mc ms : Nat} {ret : Option FieldType} {Q : Option SV → AH → Prop} {K : KT}
variable {pc : Nat} {L : List (Nat × SV)} {h : AH}
/-- Object.equals of an object whose class has none of its own -/
theorem x_eqO (C : Cx l D s0 cc own mn nL fr lw mc ms ret Q K) (t : Nat) {index : Nat} (nxt : Nat) {CC : String} {r x : Option Nat} (st : List SV) (d : decode cc pc = .ok (.invokevirtual index, 3)) (hnx : pc + 3 = nxt)
    (q1 : Cond.methodLink own index eqN ∈ lw_all) (q2 : Cond.instanceMethod eqN ∈ lw_all) (q3 : Cond.selects CC eqN eqN ∈ lw_all) (q5 : Cond.code eqN object_method_4_code 2 (some .boolean) ∈ lw_all)
    (hcl : (CL t).map (fun i => i.1) = some CC) (hroom : Nat.ble 1 fr = true ∧ Nat.ble 21 lw = true ∧ Nat.ble (st.map wd).sum 8 = true) (hn : nn h r t)
    (k : K nxt L (vI (if r = x then 1 else 0) :: st) h) : K pc L (vA x :: vA r :: st) h := by
  obtain ⟨p, e, R, s, m, args, below, meth, c, Z, hx, hb, hml, ho, hts, hds, hG, ⟨rf1, rf2, rf3, rf4⟩, hrr, hz, rfl⟩ := C
  subst hnx
  obtain ⟨a, rfl, hkd⟩ := hn
  intro H locs ls hl hR hlo hS h1 h2
  intro T hT X
  obtain ⟨cellB, g1, g2, g3⟩ := x_recv hds hG hR hkd hcl
  obtain ⟨v, vm₁, B, hW₁, X', ⟨b', x', e1, rfl, rfl⟩, stp⟩ := callV X hx ho (hts _ q1) (hts _ q2) (hts _ q3) (hts _ q5) ⟨by decide, by decide⟩
    (eqBack hx (hts _ q5) (by rw [rf1]; exact Nat.le_of_ble_eq_true hroom.1) (by rw [rf2]; exact Nat.le_of_ble_eq_true hroom.2.1)) (b := a) (by rw [hT]; exact g1) g2 g3
    (g := F0 m pc ls ((vA x :: vA (some a) :: st).map tV)) rfl (hl.1.trans hml.symm) (argsL := [tV (vA x)]) (rest := st.map tV) (fun sig hs => by
      have : (parseMethodDescriptor eqN.desc).map (fun d => d.parameters.length) = some 1 := by decide +kernel
      rw [hs] at this; exact (Option.some.inj this).symm) rfl (lv_room (by rw [sum_tV]; exact Nat.le_of_ble_eq_true hroom.2.2)) (by rw [hb]; exact d)
    (fun vm₁ _ => ⟨a, tV (vA x), rfl, by cases x <;> rfl⟩)
  dsimp only [Pt.U, Pt.locs, Pt.cells, Pt.slots] at X' stp
  obtain ⟨t2, a1, b1⟩ := k H locs ls hl hR hlo hS h1 h2 (T.setVm vm₁) hT X'
  refine ⟨t2, stp t2 ?_, b1⟩
  have e2 : b' = a ∧ x' = tV (vA x) := by
    have := congrArg Array.toList e1
    simp at this
    exact ⟨this.1.symm, this.2.symm⟩
  rw [e2.1, e2.2]
  have e3 : (if (Value.ref a : Value) = tV (vA x) then (1 : Int32) else 0) = if (some a : Option Nat) = x then 1 else 0 := by
    cases x with
    | none =>
      show (if (Value.ref a : Value) = Value.null then (1 : Int32) else 0) = if (some a : Option Nat) = none then 1 else 0
      rw [if_neg (by simp), if_neg (by simp)]
    | some y =>
      show (if (Value.ref a : Value) = Value.ref y then (1 : Int32) else 0) = if (some a : Option Nat) = some y then 1 else 0
      by_cases e : a = y
      · subst e; rw [if_pos rfl, if_pos rfl]
      · rw [if_neg (fun hh => e (Value.ref.inj hh)), if_neg (fun hh => e (Option.some.inj hh))]
  rw [e3]
  exact a1
end ROWS21
