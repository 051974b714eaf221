/-! BASE 9: the lambdas' objects -/
set_option maxRecDepth 100000
def jnk (k : Nat) (x y : Int32) : Int32 := match k with
  | 0 => x + y
  | 1 => x - y
  | 2 => x * y
  | 3 => x ||| y
  | 4 => x &&& y
  | 5 => if x < y then 1 else 0
  | 6 => if y < x then x else y
  | _ => if x < y then x else y
def sgm (k : Nat) : Nat × Nat × Lambda.Shape := (lsh[k]?).getD (0, 0, default)
def lmD (k : Nat) : ClassFile := ((sgm k).2.2.file "RuleShuttle").getD { minorVersion := 0, majorVersion := 0, constantPool := #[], accessFlags := 0, thisClass := 0, superClass := 0, interfaces := #[], fields := #[], methods := #[], attributes := #[] }
def lmF (k : Nat) : Method := ((layoutMethods (lmD k)).bind (·[1]?)).getD default
def fw2 : ByteArray := ⟨#[0x1b, 0x1c, 0xb8, 0x00, 0x11, 0xac]⟩
theorem fw2_0 : decode fw2 0 = .ok (.iload_n 1, 1) := by decide +kernel
theorem fw2_1 : decode fw2 1 = .ok (.iload_n 2, 1) := by decide +kernel
theorem fw2_2 : decode fw2 2 = .ok (.invokestatic 17, 3) := by decide +kernel
theorem fw2_5 : decode fw2 5 = .ok (.ireturn, 1) := by decide +kernel
def jnm (k : Nat) : MethodName := ⟨"RuleShuttle", (sgm k).2.2.implName, "(II)I"⟩
theorem l_file : ∀ k : Fin 8, ((sgm k.val).2.2.file "RuleShuttle").isSome = true := by decide +kernel
theorem l_sec : ∀ k : Fin 8, ((layoutMethods (lmD k.val)).bind (·[1]?)).isSome = true := by decide +kernel
theorem l_code : ∀ k : Fin 8, ((lmF k.val).code.map fun c => (c.code.data, c.maxLocals)) = some (fw2.data, 3) := by decide +kernel
theorem l_flags : ∀ k : Fin 8, ((lmF k.val).accessFlags, (lmF k.val).name, (lmF k.val).sig.returnType) = (0x0001, "of", some FieldType.int) := by decide +kernel
theorem l_17 : ∀ k : Fin 8, (lmD k.val).constantPool[17]? = some (.methodref 14 16) ∧ (lmD k.val).constantPool.className? 14 = some "RuleShuttle" ∧ (lmD k.val).constantPool.nameAndType? 16 = some ((jnm k.val).name, "(II)I") := by decide +kernel
theorem l_14 : ∀ k : Fin 8, (lmD k.val).constantPool[14]? = some (.class_ 13) ∧ (lmD k.val).constantPool.string? 13 = some "RuleShuttle" ∧ 14 ≠ (lmD k.val).thisClass := by decide +kernel
theorem l_sg : ∀ k : Fin 8, (sgm k.val).2.2.iface = "RuleShuttle$Joins" ∧ (sgm k.val).2.2.name = "of" ∧ (sgm k.val).2.2.sam.toString = "(II)I" ∧ (sgm k.val).2.2.implClass = "RuleShuttle" ∧ (sgm k.val).2.2.implDesc.toString = "(II)I" ∧ (sgm k.val).2.2.captured = [] := by decide +kernel
theorem l_w : ∀ k : Fin 8, Cond.lambdaSite ⟨"RuleShuttle", "<init>", "()V"⟩ (sgm k.val).1 (sgm k.val).2.1 (sgm k.val).2.2 ∈ flatC (Jvm.Cond.and given_1 narrow_1) := by decide +kernel

theorem l_made {k : Fin 8} {e : Setting} {vm : Vm} {d c : ClassId} {dk : Class} (hd : vm.classes[d]? = some dk) (hname : dk.name = "RuleShuttle") (h : Lambda.isMade e vm d (sgm k.val).2.2 c = true) :
    ∃ (kk tk : Class) (file : ClassFile) (methk : Method) (ck : Code) (toy : ClassId) (t : MethodId),
      vm.classes[c]? = some kk ∧ kk.name = "RuleShuttle$$Lambda" ∧ kk.cf = some file ∧ file.constantPool = (lmD k.val).constantPool ∧
      vm.method? ⟨c, 1⟩ = some methk ∧ methk.code = some ck ∧ ck.code = fw2 ∧ ck.maxLocals = 3 ∧ methk.locks = false ∧ methk.accessFlags = 0x0001 ∧ methk.sig.returnType = some .int ∧
      vm.findClass "RuleShuttle" = some toy ∧ vm.classes[toy]? = some tk ∧ ((methodIn toy (jnm k.val).name "(II)I" tk.isInterface none).ask e vm).1 = .ok t ∧
      vm.methodReady c 17 t ∧ vm.classReady c 14 toy := by
  obtain ⟨dk', kk, ok, tk, file, cf, object, iface, toy, lay, methods, target, found, hd', hk, hfile, hcf, -, -, -, -, hms, ht, htk, hg, -, hrec, -, -, -, -, hpool, hmeth, -, -, hres, -⟩ := Lambda.isMade_spec h
  cases hd.symm.trans hd'
  have hfl := l_file k
  have hcf' : cf = lmD k.val := by
    unfold lmD
    rw [hname] at hcf
    rw [hcf]; rfl
  subst hcf'
  have hsec : methods[1]? = some (lmF k.val) := by
    have h1 := l_sec k
    unfold lmF
    rw [hms] at h1 ⊢
    obtain ⟨x, hx⟩ := Option.isSome_iff_exists.mp h1
    rw [hx]
    exact hx
  obtain ⟨sg1, sg2, sg3, sg4, sg5, sg6⟩ := l_sg k
  rw [sg4] at ht
  rw [sg5] at hg
  obtain ⟨b, hb, hsame⟩ := hmeth 1 (lmF k.val) hsec
  simp only [Lambda.sameMethod, Bool.and_eq_true, decide_eq_true_eq] at hsame
  obtain ⟨⟨hn, -, hsig, hfl⟩, hcode⟩ := hsame
  have fc := l_code k
  have ff := l_flags k
  simp only [Prod.mk.injEq] at ff
  cases hfc : (lmF k.val).code with
  | none => rw [hfc] at fc; cases fc
  | some x =>
    cases hbc : b.code with
    | none => simp [hfc, hbc] at hcode
    | some y =>
      simp only [hfc, hbc, Bool.and_eq_true, decide_eq_true_eq] at hcode
      simp only [hfc, Option.map_some, Option.some.injEq, Prod.mk.injEq] at fc
      obtain ⟨h14, hs14, hne⟩ := l_14 k
      obtain ⟨e1, e2, e3⟩ := l_17 k
      refine ⟨kk, tk, file, b, y, toy, target, hk, by rw [hrec.1, hname]; rfl, hfile, hpool.2.1, by simp [Vm.method?, hk, hb], hbc, ?_, by rw [← hcode.1.1.1.1.2.1]; exact fc.2, ?_, by rw [← hfl]; exact ff.1, by rw [← hsig]; exact ff.2.2, ht, htk, hg,
        ⟨kk, hk, hres 17 _ (Lambda.resolvedOf_method e1 e2 ht htk e3 hg)⟩, ⟨kk, hk, hres 14 _ (Lambda.resolvedOf_class h14 hne hs14 ht)⟩⟩
      · rw [← hcode.1.1.1.1.2.2]
        exact ByteArray.ext fc.1
      · simp [Method.locks, Method.isSynchronized, ← hfl, ff.1, hasFlag, Acc.synchronized]
section LAM
variable {p : Program} {l : Launch} {e : Env} {R : Room} {s : State} {m : MethodId} {args : Array Value} {below : List Frame} {meth : Method} {c : Code} {T : State} {locs : List Loc} {cells slots : Nat}
/-- a body that ends with this answer -/
def JB (p : Program) (e : Env) (below : List Frame) (T : State) (m : MethodId) (x y r : Int32) : Prop := ∃ pc' : Nat, ∀ target : State,
  (∀ acts, Steps p.tables e below (doReturn e (T.setTop { method := m, pc := pc', locals := #[.val (.int x), .val (.int y)], stack := [], locked := none }) acts (some (.int r))).1 target) →
  Steps p.tables e below (T.setTop { method := m, pc := 0, locals := #[.val (.int x), .val (.int y)], stack := [], locked := none }) target
theorem jb_0 (X : Stand p l e R s m args below meth c T locs cells slots) (hexec : p.tables.exec = Jvm.exec) (hb : c.code = cX0_lambda_new_0) (hr : meth.sig.returnType = some .int) (x y : Int32) : JB p e below T m x y (jnk 0 x y) := by
  refine ⟨3, fun target h => ?_⟩
  jvm_step X.here [hexec, hb, dX0_lambda_new_0_0]
  jvm_step X.here [hexec, hb, dX0_lambda_new_0_1]
  jvm_step X.here [hexec, hb, dX0_lambda_new_0_2]
  jvm_step X.here [X.here.top, hexec, hb, dX0_lambda_new_0_3, X.method', hr, narrow]
  exact h
theorem jb_1 (X : Stand p l e R s m args below meth c T locs cells slots) (hexec : p.tables.exec = Jvm.exec) (hb : c.code = cX0_lambda_new_1) (hr : meth.sig.returnType = some .int) (x y : Int32) : JB p e below T m x y (jnk 1 x y) := by
  refine ⟨3, fun target h => ?_⟩
  jvm_step X.here [hexec, hb, dX0_lambda_new_1_0]
  jvm_step X.here [hexec, hb, dX0_lambda_new_1_1]
  jvm_step X.here [hexec, hb, dX0_lambda_new_1_2]
  jvm_step X.here [X.here.top, hexec, hb, dX0_lambda_new_1_3, X.method', hr, narrow]
  exact h
theorem jb_2 (X : Stand p l e R s m args below meth c T locs cells slots) (hexec : p.tables.exec = Jvm.exec) (hb : c.code = cX0_lambda_new_2) (hr : meth.sig.returnType = some .int) (x y : Int32) : JB p e below T m x y (jnk 2 x y) := by
  refine ⟨3, fun target h => ?_⟩
  jvm_step X.here [hexec, hb, dX0_lambda_new_2_0]
  jvm_step X.here [hexec, hb, dX0_lambda_new_2_1]
  jvm_step X.here [hexec, hb, dX0_lambda_new_2_2]
  jvm_step X.here [X.here.top, hexec, hb, dX0_lambda_new_2_3, X.method', hr, narrow]
  exact h
theorem jb_3 (X : Stand p l e R s m args below meth c T locs cells slots) (hexec : p.tables.exec = Jvm.exec) (hb : c.code = cX0_lambda_new_3) (hr : meth.sig.returnType = some .int) (x y : Int32) : JB p e below T m x y (jnk 3 x y) := by
  refine ⟨3, fun target h => ?_⟩
  jvm_step X.here [hexec, hb, dX0_lambda_new_3_0]
  jvm_step X.here [hexec, hb, dX0_lambda_new_3_1]
  jvm_step X.here [hexec, hb, dX0_lambda_new_3_2]
  jvm_step X.here [X.here.top, hexec, hb, dX0_lambda_new_3_3, X.method', hr, narrow]
  exact h
theorem jb_4 (X : Stand p l e R s m args below meth c T locs cells slots) (hexec : p.tables.exec = Jvm.exec) (hb : c.code = cX0_lambda_new_4) (hr : meth.sig.returnType = some .int) (x y : Int32) : JB p e below T m x y (jnk 4 x y) := by
  refine ⟨3, fun target h => ?_⟩
  jvm_step X.here [hexec, hb, dX0_lambda_new_4_0]
  jvm_step X.here [hexec, hb, dX0_lambda_new_4_1]
  jvm_step X.here [hexec, hb, dX0_lambda_new_4_2]
  jvm_step X.here [X.here.top, hexec, hb, dX0_lambda_new_4_3, X.method', hr, narrow]
  exact h
theorem jb_5 (X : Stand p l e R s m args below meth c T locs cells slots) (hexec : p.tables.exec = Jvm.exec) (hb : c.code = cX0_lambda_new_5) (hr : meth.sig.returnType = some .int) (x y : Int32) : JB p e below T m x y (jnk 5 x y) := by
  refine ⟨10, fun target h => ?_⟩
  jvm_step X.here [hexec, hb, dX0_lambda_new_5_0]
  jvm_step X.here [hexec, hb, dX0_lambda_new_5_1]
  by_cases hc : x < y
  · have hn : ¬ y ≤ x := by lia
    rw [show jnk 5 x y = 1 from if_pos hc] at h
    jvm_step X.here [hexec, hb, dX0_lambda_new_5_2, if_icmp.holds, hn]
    jvm_step X.here [hexec, hb, dX0_lambda_new_5_5]
    jvm_step X.here [hexec, hb, dX0_lambda_new_5_6]
    jvm_step X.here [X.here.top, hexec, hb, dX0_lambda_new_5_10, X.method', hr, narrow]
    exact h
  · have hn : y ≤ x := by lia
    rw [show jnk 5 x y = 0 from if_neg hc] at h
    jvm_step X.here [hexec, hb, dX0_lambda_new_5_2, if_icmp.holds, hn]
    jvm_step X.here [hexec, hb, dX0_lambda_new_5_9]
    jvm_step X.here [X.here.top, hexec, hb, dX0_lambda_new_5_10, X.method', hr, narrow]
    exact h
theorem jb_6 (X : Stand p l e R s m args below meth c T locs cells slots) (hexec : p.tables.exec = Jvm.exec) (hb : c.code = cX0_greater) (hr : meth.sig.returnType = some .int) (x y : Int32) : JB p e below T m x y (jnk 6 x y) := by
  refine ⟨10, fun target h => ?_⟩
  jvm_step X.here [hexec, hb, dX0_greater_0]
  jvm_step X.here [hexec, hb, dX0_greater_1]
  by_cases hc : y < x
  · have hn : ¬ x ≤ y := by lia
    rw [show jnk 6 x y = x from if_pos hc] at h
    jvm_step X.here [hexec, hb, dX0_greater_2, if_icmp.holds, hn]
    jvm_step X.here [hexec, hb, dX0_greater_5]
    jvm_step X.here [hexec, hb, dX0_greater_6]
    jvm_step X.here [X.here.top, hexec, hb, dX0_greater_10, X.method', hr, narrow]
    exact h
  · have hn : x ≤ y := by lia
    rw [show jnk 6 x y = y from if_neg hc] at h
    jvm_step X.here [hexec, hb, dX0_greater_2, if_icmp.holds, hn]
    jvm_step X.here [hexec, hb, dX0_greater_9]
    jvm_step X.here [X.here.top, hexec, hb, dX0_greater_10, X.method', hr, narrow]
    exact h
theorem jb_7 (X : Stand p l e R s m args below meth c T locs cells slots) (hexec : p.tables.exec = Jvm.exec) (hb : c.code = cX0_lesser) (hr : meth.sig.returnType = some .int) (x y : Int32) : JB p e below T m x y (jnk 7 x y) := by
  refine ⟨10, fun target h => ?_⟩
  jvm_step X.here [hexec, hb, dX0_lesser_0]
  jvm_step X.here [hexec, hb, dX0_lesser_1]
  by_cases hc : x < y
  · have hn : ¬ y ≤ x := by lia
    rw [show jnk 7 x y = x from if_pos hc] at h
    jvm_step X.here [hexec, hb, dX0_lesser_2, if_icmp.holds, hn]
    jvm_step X.here [hexec, hb, dX0_lesser_5]
    jvm_step X.here [hexec, hb, dX0_lesser_6]
    jvm_step X.here [X.here.top, hexec, hb, dX0_lesser_10, X.method', hr, narrow]
    exact h
  · have hn : y ≤ x := by lia
    rw [show jnk 7 x y = y from if_neg hc] at h
    jvm_step X.here [hexec, hb, dX0_lesser_2, if_icmp.holds, hn]
    jvm_step X.here [hexec, hb, dX0_lesser_9]
    jvm_step X.here [X.here.top, hexec, hb, dX0_lesser_10, X.method', hr, narrow]
    exact h
def jcode (k : Nat) : ByteArray := match k with
  | 0 => cX0_lambda_new_0
  | 1 => cX0_lambda_new_1
  | 2 => cX0_lambda_new_2
  | 3 => cX0_lambda_new_3
  | 4 => cX0_lambda_new_4
  | 5 => cX0_lambda_new_5
  | 6 => cX0_greater
  | _ => cX0_lesser
theorem jb_all (k : Fin 8) (X : Stand p l e R s m args below meth c T locs cells slots) (hexec : p.tables.exec = Jvm.exec) (hb : c.code = jcode k.val) (hr : meth.sig.returnType = some .int) (x y : Int32) : JB p e below T m x y (jnk k.val x y) := by
  match k with
  | ⟨0, _⟩ => exact jb_0 X hexec hb hr x y
  | ⟨1, _⟩ => exact jb_1 X hexec hb hr x y
  | ⟨2, _⟩ => exact jb_2 X hexec hb hr x y
  | ⟨3, _⟩ => exact jb_3 X hexec hb hr x y
  | ⟨4, _⟩ => exact jb_4 X hexec hb hr x y
  | ⟨5, _⟩ => exact jb_5 X hexec hb hr x y
  | ⟨6, _⟩ => exact jb_6 X hexec hb hr x y
  | ⟨7, _⟩ => exact jb_7 X hexec hb hr x y
theorem jw_code : ∀ k : Fin 8, Cond.code (jnm k.val) (jcode k.val) 2 (some .int) ∈ lw_all := by
  intro k
  match k with
  | ⟨0, _⟩ => exact q213
  | ⟨1, _⟩ => exact q215
  | ⟨2, _⟩ => exact q217
  | ⟨3, _⟩ => exact q219
  | ⟨4, _⟩ => exact q221
  | ⟨5, _⟩ => exact q223
  | ⟨6, _⟩ => exact q225
  | ⟨7, _⟩ => exact q227
theorem jw_static : ∀ k : Fin 8, Cond.static (jnm k.val) ∈ lw_all := by
  intro k
  match k with
  | ⟨0, _⟩ => exact q212
  | ⟨1, _⟩ => exact q214
  | ⟨2, _⟩ => exact q216
  | ⟨3, _⟩ => exact q218
  | ⟨4, _⟩ => exact q220
  | ⟨5, _⟩ => exact q222
  | ⟨6, _⟩ => exact q224
  | ⟨7, _⟩ => exact q226
theorem l_lsh : ∀ k : Fin 8, lsh[k.val]? = some (sgm k.val) := by decide +kernel
theorem l_plain : plainName "RuleShuttle$$Lambda" = true := by decide +kernel
theorem two_int : parseMethodDescriptor "(II)I" = some ⟨[.int, .int], some .int⟩ := by decide +kernel
/-- the made class's method: forwards -/
theorem jfw (X : Stand p l e R s m args below meth c T locs cells slots) (hexec : p.tables.exec = Jvm.exec) {g : JFrame} (hg : g.method = m) (hsize : g.locals.size = c.maxLocals) {ig : Instr} {len : Nat} (hdg : decode c.code g.pc = .ok (ig, len))
    {mk : MethodId} {methk : Method} {ck : Code} (hmk : T.vm.method? mk = some methk) (hck : methk.code = some ck) (hbytes : ck.code = fw2) (hml : ck.maxLocals = 3) (hlk : methk.locks = false) (hpk : T.plainMethod mk)
    (hretk : methk.sig.returnType = some .int) {t : MethodId} {kt : Class} {metht : Method} {ct : Code} (href : plainRef T e mk.cls 17) (hready : T.vm.methodReady mk.cls 17 t) (hkt : T.vm.classes[t.cls]? = some kt) (hmt : T.vm.method? t = some metht)
    (hct : metht.code = some ct) (hlt : metht.locks = false) (hmlt : ct.maxLocals = 2) (hpt : T.plainMethod t) (hrt : metht.sig.returnType = some .int)
    (hpoly : signaturePolymorphic kt metht = false) (hstatic : metht.isStatic = true) (hinit : kt.init = .initialized) (hpar : metht.sig.parameters.length = 2) {a : Addr} {x y r : Int32}
    (hJ : ∀ (s' : State) (args' : Array Value) (below' : List Frame) (U : State), Stand p l e rm0 s' t args' below' metht ct U [] 0 0 → JB p e below' U t x y r)
    (hframes : 2 ≤ R.frames) (hlocals : 2 * g.monitorRoom + (g.stack.map fun v => v.category).sum + 27 ≤ R.locals) (hcells : cells ≤ R.cells) (hslots : slots ≤ R.slots) :
    ∃ T' : State, Stand p l e R s m args below meth c T' (locs ++ []) (cells + 0) (slots + 0) ∧ T.WarmedH T'.vm ∧ T'.heap = T.heap ∧
      ∀ acts, Steps p.tables e below (doInvoke e (T.setTop g) acts mk #[.ref a, .int x, .int y]).1 (T'.setTop { g with pc := g.pc + len, stack := [.int r] ++ g.stack }) := by
  obtain ⟨Y₀, hin⟩ := X.into hg hsize hdg #[.ref a, .int x, .int y] (R' := { frames := 1, cells := 0, slots := 0, locals := 13 }) hmk hck hlk hpk (by show 1 + 1 ≤ _; omega) (by rw [hml]; show _ + (3 + 11) + 13 ≤ _; omega) (by show cells + 0 ≤ _; omega) (by show slots + 0 ≤ _; omega)
  generalize hU : (T.setTop g).pushFrame (.java (entryFrame mk #[.ref a, .int x, .int y] ck.maxLocals)) = U at Y₀ hin
  have hvm : U.vm = T.vm := by rw [← hU]; rfl
  have hplt : U.plainMethod t := by
    rw [← hU]
    exact hpt
  obtain ⟨Z₀, hin2⟩ := Y₀.into (g := { method := mk, pc := 2, locals := #[.val (.ref a), .val (.int x), .val (.int y)], stack := [], locked := none }) rfl (by rw [hml]; rfl) (ig := .invokestatic 17) (len := 3) (by rw [hbytes]; exact fw2_2) #[.int x, .int y] (R' := rm0) (mk := t) (methk := metht) (ck := ct) (by rw [hvm]; exact hmt) hct hlt hplt
    (by show 0 + 1 ≤ 1; omega) (by rw [hmlt]; show 2 * 0 + 0 + (2 + 11) + 0 ≤ 13; omega) (by show 0 + 0 ≤ 0; omega) (by show 0 + 0 ≤ 0; omega)
  generalize hV : (U.setTop { method := mk, pc := 2, locals := #[.val (.ref a), .val (.int x), .val (.int y)], stack := [], locked := none }).pushFrame (.java (entryFrame t #[.int x, .int y] ct.maxLocals)) = V at Z₀ hin2
  obtain ⟨pc', hbody⟩ := hJ _ _ _ _ Z₀
  obtain ⟨fs2, hleave2, -, hended2, hWe2, hsame2⟩ := Z₀.leave (v := some (.int r)) (fun h => by rw [hrt] at h; cases h) hlt
  obtain ⟨U', Y₁, hW₁, hs₁, ht2⟩ := Y₀.outOf (g := { method := mk, pc := 2, locals := #[.val (.ref a), .val (.int x), .val (.int y)], stack := [], locked := none }) rfl (ig := .invokestatic 17) (len := 3) (by rw [hbytes]; exact fw2_2) hended2 hWe2 hsame2
  obtain ⟨fs, hleave, -, hended, hWe, hsame⟩ := Y₁.leave (v := some (.int r)) (fun h => by rw [hretk] at h; cases h) hlk
  obtain ⟨T', X', hW', hs', ht⟩ := X.outOf hg hdg hended hWe hsame
  have hheap : T'.heap = T.heap := by
    have := congrArg State.heap (State.sameBut_nil.mp hs'.sameBut)
    exact this
  refine ⟨T', X', hW', hheap, fun acts => ?_⟩
  rw [hin acts]
  show Steps p.tables e below _ (T'.setTop { g with pc := g.pc + len, stack := (some (Value.int r)).toList ++ g.stack })
  rw [← ht]
  refine Steps.weaken (mid := [.java g]) ?_
  have hloc : entryFrame mk #[.ref a, .int x, .int y] ck.maxLocals = { method := mk, pc := 0, locals := #[.val (.ref a), .val (.int x), .val (.int y)], stack := [], locked := none } := by rw [hml]; rfl
  rw [hloc]
  have hs : U.topJava?.isSome := Y₀.here.top
  jvm_step Y₀.here [hexec, hbytes, fw2_0]
  jvm_step Y₀.here [hexec, hbytes, fw2_1]
  jvm_step Y₀.here [hexec, hbytes, fw2_2, invokestatic.wp_ready (e := e) (s := U) (m := t) (k := kt) (meth := metht) (args := [.int x, .int y]) (rest := [])
    (f := { method := mk, pc := 2, locals := #[.val (.ref a), .val (.int x), .val (.int y)], stack := [.int y, .int x], locked := none }) hs (by rw [← hU]; exact href) (by rw [hvm]; exact hready) (by rw [hvm]; exact hkt) (by rw [hvm]; exact hmt) hpoly hstatic hinit hpar.symm rfl]
  intro acts'
  rw [hin2 acts']
  have hloc2 : entryFrame t #[.int x, .int y] ct.maxLocals = { method := t, pc := 0, locals := #[.val (.int x), .val (.int y)], stack := [], locked := none } := by rw [hmlt]; rfl
  refine Steps.trans (Steps.weaken (mid := [.java { method := mk, pc := 2, locals := #[.val (.ref a), .val (.int x), .val (.int y)], stack := [], locked := none }]) (b := U'.setTop { method := mk, pc := 5, locals := #[.val (.ref a), .val (.int x), .val (.int y)], stack := [.int r], locked := none }) ?_) ?_
  · rw [hloc2]
    refine hbody _ fun acts2 => ?_
    rw [hleave2 { method := t, pc := pc', locals := #[.val (.int x), .val (.int y)], stack := [], locked := none } acts2 rfl rfl rfl, ht2]
    exact Steps.refl _
  · jvm_step Y₁.here [Y₁.here.top, hexec, hbytes, fw2_5, Y₁.method', hretk, narrow]
    intro acts''
    rw [hleave { method := mk, pc := 5, locals := #[.val (.ref a), .val (.int x), .val (.int y)], stack := [], locked := none } acts'' rfl rfl rfl]
    exact Steps.refl _
end LAM
section ROWS22
variable {l : Launch} {D : va_G} {s0 : S0} {cc : ByteArray} {own mn : String} {nL fr lw mc ms : Nat} {ret : Option FieldType} {Q : Option SV → AH → Prop} {K : KT}
variable {pc : Nat} {L : List (Nat × SV)} {h : AH}
/-- where a lambda's object lies -/
theorem l_at {s0 : S0} (hG : G0 D s0) (k : Fin 8) : ∃ (mD : MethodId) (kD : Class) (i0 p0 : Nat) (a : Addr) (cell : Cell), s0.1.methodNamed? ⟨"RuleShuttle", "<init>", "()V"⟩ = some mD ∧ s0.1.vm.classes[mD.cls]? = some kD ∧ (kD.callSites.find? fun y => y.1 == mD.idx && y.2.1 == (sgm k.val).1) = some (i0, p0, .constant a) ∧
    Lambda.isMade { classPath := fun _ => none } s0.1.vm mD.cls (sgm k.val).2.2 cell.cls = true ∧ s0.1.lambdaCallable (sgm k.val).2.2 cell.cls = true ∧ s0.1.heap[a]? = some cell ∧ cell.vm = .none ∧ csOf s0 (600 + k.val) = a + 1 := by
  obtain ⟨b0, hw0, hg⟩ := hG.1
  obtain ⟨cK, one, hat⟩ := Cond.lambdaSite_spec (flat_of_before _ hg _ (l_w k))
  obtain ⟨mD, kD, cfD, i0, p0, lk, hmD, hkD, -, -, -, hfind, hmade, hcan, hone⟩ := State.lambdaAt?_spec hat
  have sg := l_sg k
  rcases hone with ⟨a, cell, rfl, rfl, -, hcell, rfl, hvmc, -⟩ | ⟨-, -, hcap⟩
  · refine ⟨mD, kD, i0, p0, a, cell, hmD, hkD, hfind, hmade, hcan, hcell, hvmc, ?_⟩
    unfold csOf
    rw [if_neg (by omega), Nat.add_sub_cancel_left, l_lsh k]
    show (match s0.1.lambdaAt? ⟨"RuleShuttle", "<init>", "()V"⟩ (sgm k.val).1 (sgm k.val).2.1 (sgm k.val).2.2 with
      | some (_, some a) => a + 1
      | _ => 0) = _
    rw [hat]
  · exact absurd sg.2.2.2.2.2 hcap
/-- what a lambda's object makes of two numbers -/
theorem x_cJ (C : Cx l D s0 cc own mn nL fr lw mc ms ret Q K) (k : Fin 8) {index count : Nat} (nxt : Nat) {x y : Int32} {r : Option Nat} (st : List SV) (d : decode cc pc = .ok (.invokeinterface index count, 5)) (hnx : pc + 5 = nxt)
    (q1 : Cond.methodLink own index ⟨"RuleShuttle$Joins", "of", "(II)I"⟩ ∈ lw_all) (q2 : Cond.declares ⟨"RuleShuttle$Joins", "of", "(II)I"⟩ ∈ lw_tbl) (q3 : Cond.interfaceMethod "RuleShuttle$Joins" "RuleShuttle$Joins" "of" "(II)I" ∈ lw_tbl) (q4 : Cond.initialized "RuleShuttle" ∈ lw_all)
    (hroom : Nat.ble 2 fr = true ∧ Nat.ble 35 lw = true ∧ Nat.ble (st.map wd).sum 8 = true) (hr : r = sref (h.cs (600 + k.val)))
    (kk : K nxt L (vI (jnk k.val x y) :: st) h) : K pc L (vI y :: vI x :: vA r :: st) h := by
  obtain ⟨p, e, R, s, m, args, below, meth, c, Z, hx, hb, hml, ho, hts, hds, hG, ⟨rf1, rf2, rf3, rf4⟩, hrr, hz, rfl⟩ := C
  subst hnx
  intro H locs ls hl hR hlo hS h1 h2
  obtain ⟨mD, kD, i0, p0, a, cell, hmD0, hkD0, -, hmade0, hcan0, hcell0, hvmc, hcs⟩ := l_at hG k
  have hcs' : h.cs (600 + k.val) = a + 1 := by
    show h.bs.2 _ = _
    rw [hlo]; exact hcs
  have hr' : r = some a := by rw [hr, hcs']; rfl
  subst hr'
  have ha : a < s0.1.heap.size := by
    have := Array.getElem?_eq_some_iff.mp hcell0
    exact this.1
  have hcellH : H[a]? = some cell := by
    rw [hS.2.1 a (Nat.lt_of_lt_of_le ha hds.2.1) (fun hh => Nat.not_le_of_lt ha hh.1), hds.2.2 a ha]; exact hcell0
  obtain ⟨b0, hw0, hg⟩ := hG.1
  have hW0 := hds.1
  have hA0 := hW0.alike
  have sg := l_sg k
  -- in the tables of s
  have hmade : Lambda.isMade { classPath := fun _ => none } s.vm mD.cls (sgm k.val).2.2 cell.cls = true := Lambda.isMade_warmer hW0 hmade0
  have hcan : s.lambdaCallable (sgm k.val).2.2 cell.cls = true := by
    have := hcan0
    simp only [State.lambdaCallable, hA0.findClass, hA0.assignable, hA0.superclasses, hA0.declaredIn] at this ⊢
    exact this
  obtain ⟨kD, hkD, heD⟩ := hA0.2.2 _ _ hkD0
  obtain ⟨kD1, hkD1, hnD1⟩ := className_of_methodNamed hmD0
  cases hkD0.symm.trans hkD1
  have hnameD : kD.name = "RuleShuttle" := by rw [heD]; exact hnD1
  obtain ⟨kK, tk, file, methk, ckK, toy, t, hkK, hkn, hfile, hpool, hmk, hckK, hbytes, hmlK, hlk, hfl, hretk, htoy, htk, hlook, hready, hclsR⟩ := l_made hkD hnameD hmade
  obtain ⟨r0, rr, hn0, hrm0, hstR, hsigR⟩ := Cond.declares_spec (hw0 _ q2)
  have hn : s.methodNamed? ⟨"RuleShuttle$Joins", "of", "(II)I"⟩ = some r0 := by
    have := State.methodNamed?_setVm (s := s0.1) hA0 ⟨"RuleShuttle$Joins", "of", "(II)I"⟩
    rw [hn0] at this
    exact this
  have hrm : s.vm.method? r0 = some rr := by rw [hA0.method?]; exact hrm0
  obtain ⟨cL, kL0, r1, hcL0, hkL0, hiL0, hfoundL0, hn1⟩ := Cond.interfaceMethod_spec (hw0 _ q3)
  cases hn0.symm.trans hn1
  have hcL : s.vm.findClass "RuleShuttle$Joins" = some cL := by rw [hA0.findClass]; exact hcL0
  obtain ⟨kL, hkL, heL⟩ := hA0.2.2 _ _ hkL0
  have hiL : kL.isInterface = true := by rw [heL]; exact hiL0
  have hfoundL : s.methodFound? "RuleShuttle$Joins" "of" "(II)I" = some r0 := by
    have := State.methodFound?_setVm (s := s0.1) hA0 "RuleShuttle$Joins" "of" "(II)I"
    rw [hfoundL0] at this
    exact this
  have hr0cls : r0.cls = cL := Option.some.inj ((findClass_of_methodNamed hn).symm.trans hcL)
  obtain ⟨hnameR, hdescR⟩ := name_of_methodNamed hn hrm
  obtain ⟨-, -, -, -, -, -, -, iface', -, -, -, -, found, -, -, -, -, -, hi', -, -, -, -, -, -, hfound', -, -, -, -, -, -, -, -, -, -, hsel⟩ := Lambda.isMade_spec hmade
  rw [sg.1] at hi'
  cases hcL.symm.trans hi'
  have hfr : found = r0 := by
    have h1 : s.methodFound? "RuleShuttle$Joins" "of" "(II)I" = some r0 := hfoundL
    have hcL' : s.vm.findClass "RuleShuttle$Joins" = some cL := hcL
    simp only [State.methodFound?, hcL', hkL, hiL, Option.bind_eq_bind, Option.bind_some] at h1
    have h2 : ((methodIn cL "of" "(II)I" true none).ask { classPath := fun _ => none } s.vm).1 = .ok found := by rw [← sg.2.1, ← sg.2.2.1]; exact hfound'
    rw [h2] at h1
    exact Option.some.inj h1
  subst hfr
  obtain ⟨i2, hi2, hasg, hway⟩ := State.lambdaCallable_spec hcan
  rw [sg.1] at hi2
  cases hcL.symm.trans hi2
  rw [sg.2.1, sg.2.2.1] at hway
  have hsigI : rr.sig = ⟨[.int, .int], some .int⟩ := (Option.some.inj (two_int.symm.trans hsigR)).symm
  have hcodeT := hts _ (jw_code k)
  obtain ⟨mT, hmT⟩ := Cond.code_named hcodeT
  obtain ⟨methT, cT, hmethT, hcT, hbytesT, hlocT, hretT, hlocksT, -, hsigT⟩ := Cond.code_spec hmT hcodeT
  have hstaticT : methT.isStatic = true := Cond.static_spec hmT hmethT (hts _ (jw_static k))
  obtain ⟨kT, hkT, hnameT⟩ := className_of_methodNamed hmT
  have hfT : s.vm.findClass "RuleShuttle" = some mT.cls := findClass_of_methodNamed hmT
  have hinitK : kT.init = .initialized := Cond.initialized_spec hfT hkT (hts _ q4)
  have hsigTI : methT.sig = ⟨[.int, .int], some .int⟩ := (Option.some.inj (two_int.symm.trans hsigT)).symm
  intro T hT X
  obtain ⟨vm₁, X₁, hstep₁⟩ := X.invokeinterface hx ho (hts _ q1) hn hrm hstR (by rw [hr0cls]; exact hkL) hiL (by decide) (a := a) (cell := cell) (kcell := kK) (by rw [hT]; exact hcellH) (fun z h => by rw [hvmc] at h; cases h) hkK (by rw [hr0cls]; exact hasg)
    (m' := ⟨cell.cls, 1⟩) (meth' := methk) (by rw [Launch.admits_selectMethod X.admits]; exact hsel) hmk (by rw [hnameR, hdescR]; exact hway) (by rw [hfl]; decide) (by simp [Method.isAbstract, hfl, hasFlag, Acc.abstract])
    (g := F0 m pc ls ((vI y :: vI x :: vA (some a) :: st).map tV)) rfl (argsL := [.int x, .int y]) (rest := st.map tV) (by rw [hsigI]; rfl) rfl (by rw [hb]; exact d)
  have hW₁ : s.WarmedH vm₁ := X₁.warmed
  obtain ⟨kD₁, hkD₁, heD₁⟩ := hW₁.alike.2.2 _ _ hkD
  have hnameD₁ : kD₁.name = "RuleShuttle" := by rw [heD₁]; exact hnameD
  obtain ⟨kK₁, tk₁, file₁, methk₁, ckK₁, toy₁, t₁, hkK₁, hkn₁, hfile₁, hpool₁, hmk₁, hckK₁, hbytes₁, hml₁, hlk₁, hfl₁, hretk₁, htoy₁, htk₁, hlook₁, hready₁, hclsR₁⟩ := l_made hkD₁ hnameD₁ (Lambda.isMade_warmer hW₁ hmade)
  have hfT₁ : vm₁.findClass "RuleShuttle" = some mT.cls := by rw [hW₁.alike.findClass]; exact hfT
  cases htoy₁.symm.trans hfT₁
  have ht₁ : t₁ = mT := by
    have h1 : (s.setVm vm₁).methodFound? "RuleShuttle" (jnm k.val).name "(II)I" = some mT := by rw [State.methodFound?_setVm hW₁.alike]; exact State.methodFound?_of_named hmT ⟨by show ("RuleShuttle" : String) ≠ _; decide, by show ("RuleShuttle" : String) ≠ _; decide⟩
    simp only [State.methodFound?, State.vm_setVm, hfT₁, htk₁, Option.bind_eq_bind, Option.bind_some] at h1
    rw [hlook₁] at h1
    exact Option.some.inj h1
  subst ht₁
  have hmethT₁ : vm₁.method? t₁ = some methT := by rw [hW₁.alike.method?]; exact hmethT
  obtain ⟨kT₁, hkT₁, heT₁⟩ := hW₁.alike.2.2 _ _ hkT
  cases htk₁.symm.trans hkT₁
  have hnt : tk₁.name = "RuleShuttle" := by rw [heT₁]; exact hnameT
  have hnm : tk₁.name ≠ "java/lang/invoke/MethodHandle" ∧ tk₁.name ≠ "java/lang/invoke/VarHandle" := by
    rw [hnt]; decide
  have hsp : ∀ y : Method, signaturePolymorphic tk₁ y = false := fun y => by simp [signaturePolymorphic, hnm.1, hnm.2]
  obtain ⟨b, hmem⟩ := memberRef_ask' (e := e) (vm := vm₁) (d := cell.cls) (index := 17) hkK₁ hfile₁ (Or.inl (by rw [hpool₁]; exact (l_17 k).1)) (by rw [hpool₁]; exact (l_17 k).2.2)
  obtain ⟨T', X', hW', hheap, hsteps⟩ := jfw X₁ hx (g := { F0 m pc ls ((vI y :: vI x :: vA (some a) :: st).map tV) with stack := st.map tV }) rfl (hl.1.trans hml.symm) (ig := .invokeinterface index count) (len := 5) (by rw [hb]; exact d) (mk := ⟨cell.cls, 1⟩) hmk₁ hckK₁ hbytes₁ hml₁ hlk₁
    (State.plainMethod.of_name (fun k' hk' => by cases hkK₁.symm.trans hk'; rw [hkn₁]; exact l_plain)) hretk₁ (t := t₁) (kt := tk₁) (metht := methT) (ct := cT) ⟨14, _, _, b, t₁.cls, tk₁, hmem, hclsR₁, htk₁, by simp [hsp]⟩ hready₁ htk₁ hmethT₁ hcT hlocksT hlocT
    (State.plainMethod.of_name (fun k' hk' => by cases htk₁.symm.trans hk'; rw [hnt]; decide +kernel)) hretT (hsp _) hstaticT (by rw [heT₁]; exact hinitK) (by rw [hsigTI]; rfl) (a := a) (x := x) (y := y) (r := jnk k.val x y)
    (fun s' args' below' U Z => jb_all k Z hx hbytesT hretT x y)
    (by rw [rf1]; exact Nat.le_of_ble_eq_true hroom.1) (by
      have h8 := Nat.le_of_ble_eq_true hroom.2.2
      have h35 := Nat.le_of_ble_eq_true hroom.2.1
      rw [rf2]
      show 2 * 0 + ((st.map tV).map fun v => v.category).sum + 27 ≤ lw
      rw [sum_tV]
      omega) (by rw [rf3]; omega) (by rw [rf4]; omega)
  rw [List.append_nil] at X'
  obtain ⟨t2, a1, b1⟩ := kk H locs ls hl hR hlo hS h1 h2 T' (hheap.trans hT) X'
  exact ⟨t2, hstep₁ t2 (fun acts => (hsteps acts).trans a1), b1⟩
end ROWS22
section ROWS23
variable {l : Launch} {D : va_G} {s0 : S0} {cc : ByteArray} {own mn : String} {nL fr lw mc ms : Nat} {ret : Option FieldType} {Q : Option SV → AH → Prop} {K : KT}
variable {pc : Nat} {L : List (Nat × SV)} {st : List SV} {h : AH}
/-- the method's own name, beside Cx -/
def Nm (l : Launch) (D : va_G) (s0 : S0) (cc : ByteArray) (y : MethodName) (nL lw mc ms : Nat) (K : KT) : Prop :=
  ∃ (p : Program) (e : Env) (R : Room) (s : State) (m : MethodId) (args : Array Value) (below : List Frame) (meth : Method) (c : Code) (Z : State → Prop),
    p.tables.exec = Jvm.exec ∧ c.code = cc ∧ c.maxLocals = nL ∧ DS s0 s ∧ G0 D s0 ∧ R.locals = lw ∧ s.methodNamed? y = some m ∧ K = KK p l e R s m args below meth c D s0 nL mc ms Z
theorem x_metN (hG : G0 D s0) {y : MethodName} {vs : List SV} {L0 : List (Nat × SV)} (hy : plainName y.cls = true) (hown : y.cls = own) (hmn : y.name = mn) (hL : largs 0 vs = L0) (hlen : Nat.ble (vs.map wd).sum nL = true)
    (body : ∀ K, Cx l D s0 cc own mn nL fr lw h.rc h.rs ret Q K → Nm l D s0 cc y nL lw h.rc h.rs K → K 0 L0 [] h) : OKm l D s0 y cc nL ret fr lw vs h Q := by
  refine Met.ofW (cc := cc) (maxL := nL) (ret := ret) hy rfl ?_
  intro p e s m args below meth c s₁ B hml hv
  obtain ⟨rfl, hR, hlo, hds⟩ := hv
  have hts := atoms_spec (ws := ws_ y cc nL ret) B.pre
  have hts : ∀ w ∈ lw_all, w.before _ s = true := fun w h => hts w (List.mem_cons_of_mem _ h)
  have ho : s.vm.findClass own = some m.cls := by rw [← hown]; exact findClass_of_methodNamed B.named
  have hname : meth.name = mn := by rw [← hmn]; exact (name_of_methodNamed B.named B.method).1
  have hb := body _ ⟨p, e, (headSpec (ws_ y cc nL ret) { frames := fr, cells := h.rc, slots := h.rs, locals := lw }).room, s, m, _, below, meth, c, _, B.exec, B.bytes, hml, ho, hts, hds, hG, ⟨rfl, rfl, rfl, rfl⟩, ⟨B.returns, B.notSynchronized, hname⟩, fun H locs k n g hw => hw, rfl⟩
    ⟨p, e, (headSpec (ws_ y cc nL ret) { frames := fr, cells := h.rc, slots := h.rs, locals := lw }).room, s, m, _, below, meth, c, _, B.exec, B.bytes, hml, hds, hG, rfl, B.named, rfl⟩
  rw [lg_entry_eq]
  have hl := lv_entry (vs.map tV) (n := nL) (by rw [sl_len]; exact Nat.le_of_ble_eq_true hlen)
  rw [largs_map, hL] at hl
  have := hb s.heap [] _ hl hR hlo va_S.rf (Nat.le_refl _) (Nat.le_refl _)
  rw [Nat.sub_self, Nat.sub_self] at this
  exact this
/-- a lambda's object is laid on the stack -/
theorem x_indy (C : Nm l D s0 cc ⟨"RuleShuttle", "<init>", "()V"⟩ nL lw mc ms K) (k : Fin 8) {index : Nat} (nxt : Nat) (d : decode cc pc = .ok (.invokedynamic index, 5)) (hpc : (sgm k.val).1 = pc) (hnx : pc + 5 = nxt) (hroom : Nat.ble 3080 lw = true ∧ Nat.ble (st.map wd).sum 8 = true)
    (kk : K nxt L (vA (sref (h.cs (600 + k.val))) :: st) h) : K pc L st h := by
  obtain ⟨p, e, R, s, m, args, below, meth, c, Z, hx, hb, hml, hds, hG, rf2, hnm, rfl⟩ := C
  subst hnx
  intro H locs ls hl hR hlo hS h1 h2
  obtain ⟨mD, kD, i0, p0, a, cell, hmD0, hkD0, hfind, -, -, -, -, hcs⟩ := l_at hG k
  have hcs' : h.cs (600 + k.val) = a + 1 := by
    show h.bs.2 _ = _
    rw [hlo]; exact hcs
  have hm : m = mD := by
    have := State.methodNamed?_setVm (s := s0.1) hds.1.alike ⟨"RuleShuttle", "<init>", "()V"⟩
    rw [hmD0] at this
    have h2 : s.methodNamed? ⟨"RuleShuttle", "<init>", "()V"⟩ = some mD := this
    exact Option.some.inj (hnm.symm.trans h2)
  subst hm
  obtain ⟨kD', hkD, heD⟩ := hds.1.alike.2.2 _ _ hkD0
  have hfind' : (kD'.callSites.find? fun y => y.1 == m.idx && y.2.1 == pc) = some (i0, p0, .constant a) := by rw [heD, ← hpc]; exact hfind
  intro T hT X
  rw [hcs'] at kk
  obtain ⟨t2, a1, b1⟩ := kk H locs ls hl hR hlo hS h1 h2 T hT X
  refine ⟨t2, X.lambdaConstant hx (g := F0 m pc ls (st.map tV)) rfl (hl.1.trans hml.symm) (by rw [hb]; exact d) hkD hfind' ?_ a1, b1⟩
  have h8 := Nat.le_of_ble_eq_true hroom.2
  have h30 := Nat.le_of_ble_eq_true hroom.1
  have hp : e.platform.lambdaLinkWords = 3072 := by rw [X.admits.platform]
  rw [rf2, hp]
  show 2 * 0 + ((st.map tV).map fun v => v.category).sum + 3072 ≤ lw
  rw [sum_tV]
  omega
/-- a lambda's object is laid into the row of what joins -/
theorem x_aaJ (C : Cx l D s0 cc own mn nL fr lw mc ms ret Q K) (kl : Fin 8) {i : Int32} {x : Option Nat} {r : Option Nat} (nxt : Nat) (d : decode cc pc = .ok (.aastore, 1)) (hn : pc + 1 = nxt) (hi : ix h r 45 i) (hxl : x = sref (h.cs (600 + kl.val))) (k : ∀ h1, h1 = h.sar (adr r) (ni i) x → K nxt L st h1) : K pc L (vA x :: vI i :: vA r :: st) h := by
  obtain ⟨p, e, R, s, m, args, below, meth, c, Z, hx, hb, hml, ho, hts, hds, hG, hRm, hr, hz, rfl⟩ := C
  subst hn
  replace k := k _ rfl
  obtain ⟨a, rfl, hkd, hin⟩ := hi
  intro H locs ls hl hR hlo hS h1 h2
  have hA : AR (h.kd a).1 = some (.object "RuleShuttle$Joins") := by rw [hkd]; rfl
  have hcell : H[a]? = some (arrV (D.1 (h.kd a).1) (h.kd a).2 (fun j => va_rf (h.ar a j))) := hR.arr hA (by rw [hkd]; rfl)
  have hloa : Lo s0 a := by
    refine hR.free hlo ?_ ?_
    · first | exact AR_ne hA | exact AR_ne hA1
    · exact hR.2.2.1 a (by rw [hkd]; rfl)
  have hlt : i.toNatClampNeg < (h.kd a).2 := Nat.not_le.mp fun q => hin (Or.inr q)
  have h0 : ¬ i < 0 := fun q => hin (Or.inl q)
  have fin : ∀ H1 : Heap, H1[a]? = some ((arrV (D.1 (h.kd a).1) (h.kd a).2 (fun j => va_rf (h.ar a j))).setSlot i.toNatClampNeg (va_rf x)) → H1.size = H.size → (∀ q, q ≠ a → H1[q]? = H[q]?) → W p l e R s m args below meth c H1 (locs ++ [⟨a, i.toNatClampNeg⟩]) (mc - h.rc) (ms - h.rs) Z (F0 m (pc + 1) ls (st.map tV)) := by
    intro H1 e1 e2 e3
    refine k H1 _ ls hl (hR.ch Ch.sar e2 e3 ⟨fun i' hi' => ?_, fun ty hty => ?_⟩) hlo (hS.put e2 e3 hloa) h1 h2
    · have : CL (h.kd a).1 = some i' := hi'
      rw [AR_CL hA] at this; cases this
    · have hty' : AR (h.kd a).1 = some ty := hty
      cases hA.symm.trans hty'
      refine aO.of ?_
      show H1[a]? = _
      rw [e1]
      show some _ = some (vp_cell (D.1 (h.kd a).1) _)
      congr 1
      show (arrV _ _ _).setSlot _ _ = arrV (D.1 (h.kd a).1) (h.kd a).2 (fun j => va_rf ((h.sar a (ni i) x).ar a j))
      rw [arrV_store]
      congr 1
      funext q
      by_cases hq : q = i.toNatClampNeg
      · subst hq
        simp [updV, AH.sar, AH.mk, AH.ar, up2, ni]
      · simp [updV, AH.sar, AH.mk, AH.ar, up2, ni, hq]
  obtain ⟨mD, kD, i0, p0, v, cellV, hmD0, hkD0, -, hmade0, hcan0, hcell0, hvmc, hcs⟩ := l_at hG kl
  have hcs' : h.cs (600 + kl.val) = v + 1 := by
    show h.bs.2 _ = _
    rw [hlo]; exact hcs
  have hxv : x = some v := by rw [hxl, hcs']; rfl
  subst hxv
  have hv : v < s0.1.heap.size := (Array.getElem?_eq_some_iff.mp hcell0).1
  have hcellH : H[v]? = some cellV := by
    rw [hS.2.1 v (Nat.lt_of_lt_of_le hv hds.2.1) (fun hh => Nat.not_le_of_lt hv hh.1), hds.2.2 v hv]; exact hcell0
  have hA0 := hds.1.alike
  have sg := l_sg kl
  have hcan : s.lambdaCallable (sgm kl.val).2.2 cellV.cls = true := by
    have := hcan0
    simp only [State.lambdaCallable, hA0.findClass, hA0.assignable, hA0.superclasses, hA0.declaredIn] at this ⊢
    exact this
  obtain ⟨i2, hi2, hasg, -⟩ := State.lambdaCallable_spec hcan
  rw [sg.1] at hi2
  obtain ⟨kA, comp, k1, k2, k3, -⟩ := (hds.ar hG hA).2 (fun q => absurd (FieldType.object.inj q) (by decide))
  cases k3.symm.trans hi2
  obtain ⟨kc, hkc, -⟩ := Vm.findClass_spec hi2
  obtain ⟨-, kk0, -, -, -, -, -, -, -, -, -, -, -, -, hkk0, -⟩ := Lambda.isMade_spec hmade0
  obtain ⟨kv, hkv, -⟩ := hA0.2.2 _ _ hkk0
  exact W.aast hx hb hcell (fun q h => by cases h) (fun h => by cases h) k1 k2 rfl hkc ⟨h0, by show _ < (arrV _ _ _).slots.size; rw [arrV_size]; exact hlt⟩ hcellH (fun q h => by rw [hvmc] at h; cases h) hkv hasg rfl rfl d fin
end ROWS23
/-- a row of n rows of k numbers, the first i of them laid -/
def AH.man (h : AH) (n k : Nat) : Nat → AH
  | 0 => h.new 47 n n
  | i + 1 => ((h.man n k i).new 40 k k).sar h.sz i (some (h.sz + 1 + i))
theorem man_sz (h : AH) (n k : Nat) : ∀ i, (h.man n k i).sz = h.sz + 1 + i
  | 0 => rfl
  | i + 1 => by
    show (h.man n k i).sz + 1 = _
    rw [man_sz h n k i]; omega
theorem man_kd (h : AH) (n k : Nat) : ∀ i, (h.man n k i).kd h.sz = (47, n)
  | 0 => if_pos rfl
  | i + 1 => by
    show (if h.sz = (h.man n k i).sz then (40, k) else (h.man n k i).kd h.sz) = _
    rw [if_neg (by rw [man_sz]; omega)]
    exact man_kd h n k i
theorem man_bs (h : AH) (n k : Nat) : ∀ i, (h.man n k i).bs = h.bs
  | 0 => rfl
  | i + 1 => man_bs h n k i
theorem man_rc (h : AH) (n k : Nat) : ∀ i, (h.man n k i).rc = h.rc - 1 - i
  | 0 => rfl
  | i + 1 => by
    show (h.man n k i).rc - 1 = _
    rw [man_rc h n k i]; omega
theorem man_rs (h : AH) (n k : Nat) : ∀ i, (h.man n k i).rs = h.rs - n - i * k
  | 0 => by show h.rs - n = _; omega
  | i + 1 => by
    show (h.man n k i).rs - k = _
    rw [man_rs h n k i, Nat.succ_mul]; omega
/-- the model's state as such a row is laid -/
def mnS (T : State) (cA cB : ClassId) (n k : Nat) : Nat → State
  | 0 => T.pushCell (arrV cA n (fun _ => .null))
  | i + 1 => ((mnS T cA cB n k i).pushCell (arrV cB k (fun _ => .int 0))).setCell T.heap.size ((arrV cA n (fun j => if j < i then .ref (T.heap.size + 1 + j) else .null)).setSlot i (.ref (T.heap.size + 1 + i)))
theorem mn_next (cA : ClassId) (n i z : Nat) : (arrV cA n (fun j => if j < i then .ref (z + 1 + j) else .null)).setSlot i (.ref (z + 1 + i)) = arrV cA n (fun j => if j < i + 1 then .ref (z + 1 + j) else .null) := by
  rw [arrV_store]
  congr 1
  funext q
  unfold updV
  by_cases hq : q = i
  · subst hq; rw [if_pos rfl, if_pos (by omega)]
  · rw [if_neg hq]
    show (if q < i then Value.ref (z + 1 + q) else Value.null) = _
    by_cases hl : q < i
    · rw [if_pos hl, if_pos (by omega)]
    · rw [if_neg hl, if_neg (by omega)]
theorem mn_facts (T : State) (cA cB : ClassId) (n k : Nat) : ∀ i, (mnS T cA cB n k i).heap.size = T.heap.size + 1 + i ∧ (mnS T cA cB n k i).heap[T.heap.size]? = some (arrV cA n (fun j => if j < i then .ref (T.heap.size + 1 + j) else .null)) ∧
    (mnS T cA cB n k i).vm = T.vm ∧ (mnS T cA cB n k i).slotsUsed = T.slotsUsed + n + i * k ∧ ∀ q, q < T.heap.size → (mnS T cA cB n k i).heap[q]? = T.heap[q]?
  | 0 => by
    refine ⟨size_pushCell _ _, ?_, rfl, ?_, fun q hq => State.heap_pushCell_of_lt _ _ hq⟩
    · show (T.pushCell _).heap[T.heap.size]? = _
      rw [State.heap_pushCell_size]
      congr 1
    · show T.slotsUsed + (arrV cA n (fun _ => .null)).slots.size = _
      rw [arrV_size]; omega
  | i + 1 => by
    obtain ⟨a, b, d, u, w⟩ := mn_facts T cA cB n k i
    have hlt : T.heap.size < (mnS T cA cB n k i).heap.size := by omega
    have hb' : ((mnS T cA cB n k i).pushCell (arrV cB k (fun _ => .int 0))).heap[T.heap.size]? = some (arrV cA n (fun j => if j < i then .ref (T.heap.size + 1 + j) else .null)) := by rw [State.heap_pushCell_of_lt _ _ hlt]; exact b
    refine ⟨?_, ?_, d, ?_, fun q hq => ?_⟩
    · show (((mnS T cA cB n k i).pushCell _).setCell _ _).heap.size = _
      rw [size_setCell, size_pushCell, a]; omega
    · show (((mnS T cA cB n k i).pushCell _).setCell _ _).heap[T.heap.size]? = _
      rw [State.heap_setCell_self hb', mn_next]
    · show (mnS T cA cB n k i).slotsUsed + (arrV cB k (fun _ => .int 0)).slots.size = _
      rw [u, arrV_size, Nat.succ_mul]; omega
    · show (((mnS T cA cB n k i).pushCell _).setCell _ _).heap[q]? = _
      have hq2 : q < (mnS T cA cB n k i).heap.size := Nat.lt_trans hq hlt
      rw [State.heap_setCell_other (Nat.ne_of_gt hq), State.heap_pushCell_of_lt _ _ hq2]
      exact w q hq
theorem mn_top (T : State) (f : JFrame) (cA cB : ClassId) (n k : Nat) : ∀ i, mnS (T.setTop f) cA cB n k i = (mnS T cA cB n k i).setTop f
  | 0 => rfl
  | i + 1 => by simp only [mnS, mn_top T f cA cB n k i, State.heap_setTop, State.pushCell_setTop, State.setCell_setTop]
section MNW
variable {E : CtlPost} {e : Env} {d : Bool} {acts : List Action} {s : State}
theorem mn_new {c comp : ClassId} {k : Class} {type : FieldType} {len : Nat} {init : Value} (hk : s.vm.classes[c]? = some k) (hkind : k.kind = .array comp type)
    (hlimit : ¬ len > e.platform.arrayLengthLimit) (hheap : ¬ len * componentBytes type > e.platform.maxHeapBytes) (hfit : fits type init = true) (hdef : init.isDefault = true) {Q : Addr → Pre}
    (h1 : s.heap.size < e.platform.maxCells) (h2 : s.slotsUsed + len ≤ e.platform.maxSlots)
    (hq : Q s.heap.size d acts (s.pushCell (arrV c len (fun _ => init)))) : wp (Jvm.newArray c len init) Q E e d acts s := by
  have hfits : ∀ i v, (Array.replicate len init)[i]? = some v → s.fitsSlot c .none i v = true := by
    intro i v hv
    rw [Array.getElem?_replicate] at hv
    split at hv
    · cases hv; simp [State.fitsSlot, State.slotType?, hk, hkind, hfit]
    · cases hv
  have hda : allocActs (Array.replicate len init) s.heap.size acts = acts := by
    unfold allocActs
    rw [if_pos]
    rw [Array.all_replicate]; split <;> simp [hdef]
  rw [← arrV_new] at hq
  simp only [Jvm.newArray, Jvm.arrayFits, wp_bind', W.ask, W.ite, hlimit, if_false, wp_pure', W.theClass, hk, hkind, hheap, W.alloc, W.stop, Option.some.injEq, exists_eq_left', Array.size_replicate, hda]
  rw [if_neg (by omega)]
  exact ⟨h1, h2, hfits, hq⟩
theorem mn_make {c comp cc : ClassId} {k kc : Class} {n m : Int32} (hk : s.vm.classes[c]? = some k) (hkind : k.kind = .array comp (.array .int))
    (hkc : s.vm.classes[comp]? = some kc) (hkindc : kc.kind = .array cc .int) (hn : ¬ n < 0) (hm : ¬ m < 0)
    (hl1 : ¬ n.toNatClampNeg > e.platform.arrayLengthLimit) (hh1 : ¬ n.toNatClampNeg * componentBytes (.array .int) > e.platform.maxHeapBytes)
    (hl2 : ¬ m.toNatClampNeg > e.platform.arrayLengthLimit) (hh2 : ¬ m.toNatClampNeg * componentBytes .int > e.platform.maxHeapBytes)
    (hc : s.heap.size + 1 + n.toNatClampNeg ≤ e.platform.maxCells) (hs : s.slotsUsed + n.toNatClampNeg + n.toNatClampNeg * m.toNatClampNeg ≤ e.platform.maxSlots)
    {Q : Addr → Pre} (hq : ∀ d' acts', Q s.heap.size d' acts' (mnS s c comp n.toNatClampNeg m.toNatClampNeg n.toNatClampNeg)) :
    wp (multianewarray.make c [n, m]) Q E e d acts s := by
  have hfind : ([m].find? (· < 0)) = none := by simp [hm]
  rw [multianewarray.make]
  simp only [wp_bind', W.ite, hn, if_false, wp_pure', W.theClass, hk, hkind, Option.some.injEq, exists_eq_left']
  refine mn_new hk hkind hl1 hh1 rfl rfl (by omega) (by have := Nat.zero_le (n.toNatClampNeg * m.toNatClampNeg); omega) ?_
  simp only [hfind]
  rw [ite_self, wp_bind', Std.Legacy.Range.forIn_eq_forIn_range']
  have hsz : ([:n.toNatClampNeg] : Std.Legacy.Range).size = n.toNatClampNeg := by simp [Std.Legacy.Range.size]
  rw [hsz]
  show wp (forIn (List.range' 0 n.toNatClampNeg 1) PUnit.unit _) _ E e d acts _
  refine wp_forIn_inv (fun rest s' => ∃ i, i ≤ n.toNatClampNeg ∧ rest = List.range' i (n.toNatClampNeg - i) ∧ s' = mnS s c comp n.toNatClampNeg m.toNatClampNeg i) _ _ ⟨0, Nat.zero_le _, rfl, rfl⟩ ?_ ?_
  · rintro x rest s' d' acts' Q' ⟨i, hi, hl, rfl⟩ hnext
    have hlt : i < n.toNatClampNeg := by
      rcases Nat.lt_or_ge i n.toNatClampNeg with h | h
      · exact h
      · rw [show n.toNatClampNeg - i = 0 from by omega] at hl; simp at hl
    obtain ⟨rfl, hrest⟩ : x = i ∧ rest = List.range' (i + 1) (n.toNatClampNeg - (i + 1)) := by
      rw [show n.toNatClampNeg - i = (n.toNatClampNeg - (i + 1)) + 1 from by omega, List.range'_succ] at hl
      exact ⟨(List.cons.inj hl).1, (List.cons.inj hl).2⟩
    obtain ⟨f1, f2, f3, f4, f5⟩ := mn_facts s c comp n.toNatClampNeg m.toNatClampNeg x
    have hmul : x * m.toNatClampNeg + m.toNatClampNeg ≤ n.toNatClampNeg * m.toNatClampNeg := by
      have := Nat.mul_le_mul_right m.toNatClampNeg (show x + 1 ≤ n.toNatClampNeg from hlt)
      rw [Nat.succ_mul] at this; exact this
    simp only [wp_bind']
    rw [multianewarray.make]
    simp only [wp_bind', W.ite, hm, if_false, wp_pure', W.theClass, f3, hkc, hkindc, Option.some.injEq, exists_eq_left']
    refine mn_new (by rw [f3]; exact hkc) hkindc hl2 hh2 rfl rfl (by rw [f1]; omega) (by rw [f4]; omega) ?_
    have hlt0 : s.heap.size < (mnS s c comp n.toNatClampNeg m.toNatClampNeg x).heap.size := by rw [f1]; omega
    simp only [wp_bind', W.writeLoc, wp_pure']
    refine ⟨arrV c n.toNatClampNeg (fun j => if j < x then .ref (s.heap.size + 1 + j) else .null), by rw [State.heap_pushCell_of_lt _ _ hlt0]; exact f2, fun h => (by cases h), by rw [arrV_size]; exact hlt, ?_, hnext _ _ _ ⟨x + 1, hlt, hrest, ?_⟩⟩
    · show State.fitsSlot _ c .none x _ = true
      simp [State.fitsSlot, State.slotType?, f3, hk, hkind]
      rfl
    · rw [f1]; rfl
  · rintro s' d' acts' ⟨i, hi, hl, rfl⟩
    have hiN : i = n.toNatClampNeg := by
      rcases Nat.lt_or_ge i n.toNatClampNeg with h | h
      · rw [show n.toNatClampNeg - i = (n.toNatClampNeg - (i + 1)) + 1 from by omega, List.range'_succ] at hl; cases hl
      · omega
    subst hiN
    simp only [wp_pure']
    exact hq _ _
end MNW
theorem Rp.man {D : va_G} {H : Heap} {h : AH} (hR : Rp D H h) (hlo : h.lo ≤ h.sz) {n k : Nat} {T : State} (hT : T.heap = H) : ∀ i, i ≤ n → Rp D (mnS T (D.1 47) (D.1 40) n k i).heap (h.man n k i)
  | 0, _ => by
    have hz : T.heap.size = h.sz := by rw [hT]; exact hR.1
    refine hR.new (t := 47) (n := n) (m := n) ?_ ?_ hlo ⟨fun i' hi' => ?_, fun ty hty => ?_⟩
    · show (T.pushCell _).heap.size = _
      rw [size_pushCell, hT]
    · intro q hq
      show (T.pushCell _).heap[q]? = _
      rw [State.heap_pushCell_of_lt _ _ (by rw [hT]; exact hq), hT]
    · have ek : (h.new 47 n n).kd h.sz = (47, n) := if_pos rfl
      rw [ek] at hi'
      rw [AR_CL (t := 47) (ty := .array .int) rfl] at hi'; cases hi'
    · have ek : (h.new 47 n n).kd h.sz = (47, n) := if_pos rfl
      rw [ek] at hty ⊢
      cases (show AR 47 = some (.array .int) from rfl).symm.trans hty
      refine aO.of ?_
      rw [acont_new _ ⟨fun q => (by cases q), fun q => (by cases q)⟩]
      show (T.pushCell _).heap[h.sz]? = _
      rw [← hz, State.heap_pushCell_size]
      rfl
  | i + 1, hi => by
    have hz : T.heap.size = h.sz := by rw [hT]; exact hR.1
    have ih := Rp.man hR hlo hT (k := k) i (Nat.le_of_succ_le hi)
    obtain ⟨f1, f2, f3, f4, f5⟩ := mn_facts T (D.1 47) (D.1 40) n k i
    generalize hF : mnS T (D.1 47) (D.1 40) n k i = F at ih f1 f2 f3 f4 f5
    generalize hM : h.man n k i = M at ih
    have hMs : M.sz = h.sz + 1 + i := by rw [← hM]; exact man_sz h n k i
    have hMk : M.kd h.sz = (47, n) := by rw [← hM]; exact man_kd h n k i
    have hMl : M.lo = h.lo := by
      show M.bs.1 = h.bs.1
      rw [← hM, man_bs]
    -- the inner row
    have R1 : Rp D (F.pushCell (arrV (D.1 40) k (fun _ => .int 0))).heap (M.new 40 k k) := by
      refine ih.new (t := 40) (n := k) (m := k) ?_ ?_ (by rw [hMl, hMs]; omega) ⟨fun i' hi' => ?_, fun ty hty => ?_⟩
      · rw [size_pushCell]
      · intro q hq
        rw [State.heap_pushCell_of_lt _ _ hq]
      · have ek : (M.new 40 k k).kd M.sz = (40, k) := if_pos rfl
        rw [ek] at hi'
        rw [AR_CL (t := 40) (ty := .int) rfl] at hi'; cases hi'
      · have ek : (M.new 40 k k).kd M.sz = (40, k) := if_pos rfl
        rw [ek] at hty ⊢
        cases (show AR 40 = some .int from rfl).symm.trans hty
        refine aO.of ?_
        rw [acont_new _ ⟨fun q => (by cases q), fun q => (by cases q)⟩]
        have hs : F.heap.size = M.sz := ih.1
        rw [← hs, State.heap_pushCell_size]
        rfl
    have k1 : (M.new 40 k k).kd h.sz = (47, n) := by
      show (if h.sz = M.sz then (40, k) else M.kd h.sz) = _
      rw [if_neg (by omega)]; exact hMk
    have hA : AR ((M.new 40 k k).kd h.sz).1 = some (.array .int) := by rw [k1]; rfl
    have hcell : (F.pushCell (arrV (D.1 40) k (fun _ => .int 0))).heap[h.sz]? = some (arrV (D.1 ((M.new 40 k k).kd h.sz).1) ((M.new 40 k k).kd h.sz).2 (fun j => va_rf ((M.new 40 k k).ar h.sz j))) := R1.arr hA (by rw [k1]; rfl)
    rw [k1] at hcell
    have hltF : T.heap.size < F.heap.size := by omega
    have hb' : (F.pushCell (arrV (D.1 40) k (fun _ => .int 0))).heap[T.heap.size]? = some (arrV (D.1 47) n (fun j => if j < i then .ref (T.heap.size + 1 + j) else .null)) := by rw [State.heap_pushCell_of_lt _ _ hltF]; exact f2
    have hoc : arrV (D.1 47) n (fun j => if j < i then .ref (T.heap.size + 1 + j) else .null) = arrV (D.1 47) n (fun j => va_rf ((M.new 40 k k).ar h.sz j)) := by
      have h1 := hb'
      rw [hz, hcell] at h1
      rw [hz]
      exact (Option.some.inj h1).symm
    show Rp D (((mnS T (D.1 47) (D.1 40) n k i).pushCell (arrV (D.1 40) k (fun _ => .int 0))).setCell T.heap.size ((arrV (D.1 47) n (fun j => if j < i then .ref (T.heap.size + 1 + j) else .null)).setSlot i (.ref (T.heap.size + 1 + i)))).heap (((h.man n k i).new 40 k k).sar h.sz i (some (h.sz + 1 + i)))
    rw [hM, hF]
    refine R1.ch (a := h.sz) Ch.sar (size_setCell _ _ _) (fun q hq => State.heap_setCell_other (by rw [hz]; exact fun e => hq e.symm)) ⟨fun i' hi' => ?_, fun ty hty => ?_⟩
    · have : CL ((M.new 40 k k).kd h.sz).1 = some i' := hi'
      rw [AR_CL hA] at this; cases this
    · have hty' : AR ((M.new 40 k k).kd h.sz).1 = some ty := hty
      cases hA.symm.trans hty'
      have e1 : ∀ x : Cell, ((F.pushCell (arrV (D.1 40) k (fun _ => .int 0))).setCell T.heap.size x).heap[h.sz]? = some x := by
        intro x
        rw [← hz]
        exact State.heap_setCell_self hb'
      refine aO.of ?_
      rw [e1, hoc, arrV_store]
      congr 1
      show _ = arrV (D.1 ((M.new 40 k k).kd h.sz).1) ((M.new 40 k k).kd h.sz).2 (fun j => va_rf (((M.new 40 k k).sar h.sz i (some (h.sz + 1 + i))).ar h.sz j))
      rw [k1]
      congr 1
      funext q
      by_cases hq : q = i
      · subst hq
        simp [updV, AH.sar, AH.mk, AH.ar, up2, hz]
        rfl
      · simp [updV, AH.sar, AH.mk, AH.ar, up2, hq]
theorem over_AA {args : Array Value} {first s : State} {o : Option Outcome} {idx : List Nat} (h : (Cond.arrayOver (.array .int)).holds args first o s idx = true) :
    ∃ comp c k, s.vm.findClass "[I" = some comp ∧ s.vm.classes[c]? = some k ∧ k.kind = .array comp (.array .int) ∧ s.vm.findClass "[[I" = some c := by
  simp only [Cond.holds, Cond.value, beq_iff_eq] at h
  cases hc : s.vm.findClass (FieldType.array .int).toString with
  | none => simp [hc] at h
  | some comp =>
    simp only [hc, Option.bind_some, Option.bind_eq_some_iff, Option.map_eq_some_iff] at h
    obtain ⟨c, hi, k, hk, hb⟩ := h
    obtain ⟨hlt, hp, -⟩ := Array.findIdx?_eq_some_iff_getElem.mp hi
    have hkk : s.vm.classes[c] = k := (Array.getElem?_eq_some_iff.mp hk).2
    rw [hkk] at hp
    cases hkind : k.kind with
    | array component ty =>
      rw [hkind] at hb hp
      simp at hb hp
      exact ⟨comp, c, k, hc, hk, by rw [hkind, hp, hb.1], hb.2⟩
    | _ => rw [hkind] at hb; simp at hb
section MNS
variable {p : Program} {l : Launch} {e : Env} {R : Room} {s : State} {m : MethodId} {args : Array Value} {below : List Frame} {meth : Method} {c : Code} {T : State} {locs : List Loc} {cells slots : Nat}
theorem mn_stand (X : Stand p l e R s m args below meth c T locs cells slots) (cA cB : ClassId) (n k : Nat) : ∀ i, Stand p l e R s m args below meth c (mnS T cA cB n k i) (locs ++ (List.range i).map fun j => ⟨T.heap.size, j⟩) (cells + 1 + i) (slots + n + i * k)
  | 0 => by
    have h := X.pushed (arrV cA n (fun _ => .null))
    rw [arrV_size] at h
    simpa [mnS] using h
  | i + 1 => by
    have Xi := mn_stand X cA cB n k i
    obtain ⟨f1, f2, -⟩ := mn_facts T cA cB n k i
    have hltF : T.heap.size < (mnS T cA cB n k i).heap.size := by omega
    have hcell : ((mnS T cA cB n k i).pushCell (arrV cB k (fun _ => .int 0))).heap[T.heap.size]? = some (arrV cA n (fun j => if j < i then .ref (T.heap.size + 1 + j) else .null)) := by rw [State.heap_pushCell_of_lt _ _ hltF]; exact f2
    have h := (Xi.pushed (arrV cB k (fun _ => .int 0))).stored hcell i (.ref (T.heap.size + 1 + i))
    rw [arrV_size] at h
    have e2 : (locs ++ (List.range (i + 1)).map fun j => (⟨T.heap.size, j⟩ : Loc)) = (locs ++ (List.range i).map fun j => (⟨T.heap.size, j⟩ : Loc)) ++ [⟨T.heap.size, i⟩] := by simp [List.range_succ, List.append_assoc]
    have e3 : slots + n + (i + 1) * k = slots + n + i * k + k := by rw [Nat.succ_mul]; omega
    rw [e2, e3]
    exact h
theorem mn_run (X : Stand p l e R s m args below meth c T locs cells slots) (hexec : p.tables.exec = Jvm.exec) {own : String} {index : Nat} {cA comp cc : ClassId} {kA kC : Class}
    (hown : s.vm.findClass own = some m.cls) (hclink : (Cond.classLink own index "[[I").before args s = true) (hnameA : s.vm.findClass "[[I" = some cA) (hkA : s.vm.classes[cA]? = some kA) (hkindA : kA.kind = .array comp (.array .int)) (hkC : s.vm.classes[comp]? = some kC) (hkindC : kC.kind = .array cc .int)
    {g : JFrame} (hg : g.method = m) (hdg : decode c.code g.pc = .ok (.multianewarray index 2, 4)) {n k : Int32} {rest : List Value} (hstack : g.stack = .int k :: .int n :: rest)
    (hn : ¬ n < 0) (hk : ¬ k < 0) (hb1 : n.toNatClampNeg ≤ 1000) (hb2 : k.toNatClampNeg ≤ 1000)
    (hcells : cells + (1 + n.toNatClampNeg) ≤ R.cells) (hslots : slots + (n.toNatClampNeg + n.toNatClampNeg * k.toNatClampNeg) ≤ R.slots) :
    ∃ vm₁ : Vm, s.WarmedH vm₁ ∧ Stand p l e R s m args below meth c (mnS (T.setVm vm₁) cA comp n.toNatClampNeg k.toNatClampNeg n.toNatClampNeg) (locs ++ (List.range n.toNatClampNeg).map fun j => ⟨T.heap.size, j⟩) (cells + 1 + n.toNatClampNeg) (slots + n.toNatClampNeg + n.toNatClampNeg * k.toNatClampNeg) ∧
      ∀ target, Steps p.tables e below ((mnS (T.setVm vm₁) cA comp n.toNatClampNeg k.toNatClampNeg n.toNatClampNeg).setTop { g with pc := g.pc + 4, stack := .ref T.heap.size :: rest }) target → Steps p.tables e below (T.setTop g) target := by
  subst hg
  have hpl : e.platform.magicAccessors = ({} : Platform).magicAccessors := by rw [X.admits.platform]
  obtain ⟨c0, hfc0, hcl⟩ := Cond.classLink_spec hown hclink e.platform hpl
  cases hnameA.symm.trans hfc0
  obtain ⟨hg₁, hwarm₁, hready₁⟩ := State.classEntry (e := e) X.warmed hcl
  generalize T.vm.noted g.method.cls index (.cls cA) = vm₁ at hg₁ hwarm₁ hready₁
  have hal : s.vm.Alike vm₁ := hwarm₁.alike
  obtain ⟨kA₁, hkA₁, heA⟩ := hal.2.2 _ _ hkA
  obtain ⟨kC₁, hkC₁, heC⟩ := hal.2.2 _ _ hkC
  have hkindA₁ : kA₁.kind = .array comp (.array .int) := by rw [heA]; exact hkindA
  have hkindC₁ : kC₁.kind = .array cc .int := by rw [heC]; exact hkindC
  have X₁ := X.noted hwarm₁
  obtain ⟨hr1, hr2⟩ := X.heapHas hcells hslots
  refine ⟨vm₁, hwarm₁, mn_stand X₁ cA comp _ _ _, fun target hrest => ?_⟩
  have hl1 : ¬ n.toNatClampNeg > e.platform.arrayLengthLimit := by rw [Launch.admits_arrayLengthLimit X.admits]; omega
  have hh1 : ¬ n.toNatClampNeg * componentBytes (.array .int) > e.platform.maxHeapBytes := by
    rw [Launch.admits_maxHeapBytes X.admits]; show ¬ n.toNatClampNeg * 4 > 536870912; omega
  have hl2 : ¬ k.toNatClampNeg > e.platform.arrayLengthLimit := by rw [Launch.admits_arrayLengthLimit X.admits]; omega
  have hh2 : ¬ k.toNatClampNeg * componentBytes .int > e.platform.maxHeapBytes := by rw [Launch.admits_maxHeapBytes X.admits]; show ¬ k.toNatClampNeg * 4 > 536870912; omega
  jvm_step X.here [hexec, hdg]
  simp only [multianewarray.sem, wp_bind', W.resolveClassAt_links (State.method?_setTop g X.here.top) hg₁]
  rw [W.popN, if_neg (by decide)]
  refine ⟨g, State.topJava?_setTop' (s := T.setVm vm₁) g X.here.top, [.int n, .int k], rest, rfl, hstack, ?_⟩
  simp only [List.mapM_cons, List.mapM_nil, wp_bind', wp_pure']
  refine mn_make (k := kA₁) (kc := kC₁) (comp := comp) (cc := cc) hkA₁ hkindA₁ hkC₁ hkindC₁ hn hk hl1 hh1 hl2 hh2 (by show T.heap.size + 1 + _ ≤ _; omega) (by show T.slotsUsed + _ + _ ≤ _; omega) (fun d' acts' => ?_)
  have XF := mn_stand X₁ cA comp n.toNatClampNeg k.toNatClampNeg n.toNatClampNeg
  have eS : ((T.setTop g).setVm vm₁).setTop { g with stack := rest } = (T.setVm vm₁).setTop { g with stack := rest } := by
    show ((T.setVm vm₁).setTop g).setTop _ = _
    rw [State.setTop_setTop]
  rw [eS, mn_top]
  simp only [wp_bind', W.mark, W.pushRef, State.topJava?_setTop' _ XF.here.top, Option.some.injEq, exists_eq_left', State.setTop_setTop, State.heap_setTop]
  intro acts
  simp [jvm, XF.here.top]
  exact hrest
end MNS
def mnl (h : AH) (x y : Int32) : Prop := ¬ x < 0 ∧ ¬ y < 0 ∧ ni x ≤ 1000 ∧ ni y ≤ 1000 ∧ 1 + ni x ≤ h.rc ∧ ni x + ni x * ni y ≤ h.rs
section ROWS24
variable {l : Launch} {D : va_G} {s0 : S0} {cc : ByteArray} {own mn : String} {nL fr lw mc ms : Nat} {ret : Option FieldType} {Q : Option SV → AH → Prop} {K : KT}
variable {pc : Nat} {L : List (Nat × SV)} {st : List SV} {h : AH}
theorem x_man (C : Cx l D s0 cc own mn nL fr lw mc ms ret Q K) {index : Nat} (nxt : Nat) {x y : Int32} (d : decode cc pc = .ok (.multianewarray index 2, 4)) (hn : pc + 4 = nxt) (q1 : Cond.classLink own index "[[I" ∈ lw_all) (q2 : Cond.arrayOver (.array .int) ∈ lw_tbl) (q3 : Cond.arrayClass .int ∈ lw_all)
    (hr : mnl h x y)
    (k : ∀ h1, h1 = h.man (ni x) (ni y) (ni x) → K nxt L (vA (some h.sz) :: st) h1) : K pc L (vI y :: vI x :: st) h := by
  obtain ⟨p, e, R, s, m, args, below, meth, c, Z, hx, hb, hml, ho, hts, hds, hG, ⟨rf1, rf2, rf3, rf4⟩, hrr, hz, rfl⟩ := C
  subst hn
  replace k := k _ rfl
  intro H locs ls hl hR hlo hS h1 h2
  obtain ⟨hx0, hy0, hxl, hyl, hr1, hr2⟩ := hr
  obtain ⟨b0, hw0, -⟩ := hG.1
  have hlosz : h.lo ≤ h.sz := by rw [lo_of hlo, ← hR.1]; exact Nat.le_trans hds.2.1 hS.1
  obtain ⟨comp, cA, kA0, hcomp0, hkA0, hkindA0, hnameA0⟩ := over_AA (hw0 _ q2)
  have hA0 := hds.1.alike
  obtain ⟨kA, hkA, heA⟩ := hA0.2.2 _ _ hkA0
  obtain ⟨comp', kC, cc', hcomp', hkC, hkindC⟩ := Cond.arrayClass_spec (hts _ q3)
  have hnameA : s.vm.findClass "[[I" = some cA := by rw [hA0.findClass]; exact hnameA0
  have hcompS : s.vm.findClass "[I" = some comp := by rw [hA0.findClass]; exact hcomp0
  have ecomp : comp' = comp := Option.some.inj (hcomp'.symm.trans hcompS)
  subst ecomp
  have e47 : D.1 47 = cA := Option.some.inj ((show s.vm.findClass "[[I" = some (D.1 47) from (hds.ar hG (t := 47) (ty := .array .int) rfl).2 (fun q => by cases q)).symm.trans hnameA)
  have e40 : D.1 40 = comp' := Option.some.inj ((show s.vm.findClass "[I" = some (D.1 40) from (hds.ar hG (t := 40) (ty := .int) rfl).2 (fun q => by cases q)).symm.trans hcomp')
  subst e47
  subst e40
  intro T hT X
  obtain ⟨vm₁, hW1, X1, step⟩ := mn_run X hx ho (hts _ q1) hnameA hkA (by rw [heA]; exact hkindA0) hkC hkindC (g := F0 m pc ls ((vI y :: vI x :: st).map tV)) rfl (by rw [hb]; exact d) (n := x) (k := y) (rest := st.map tV) rfl hx0 hy0 hxl hyl
    (by rw [rf3]; show mc - h.rc + (1 + ni x) ≤ mc; omega) (by rw [rf4]; show ms - h.rs + (ni x + ni x * ni y) ≤ ms; omega)
  have hT1 : (T.setVm vm₁).heap = H := hT
  have R1 := hR.man hlosz (n := ni x) (k := ni y) hT1 (ni x) (Nat.le_refl _)
  obtain ⟨f1, -, -, -, f5⟩ := mn_facts (T.setVm vm₁) (D.1 47) (D.1 40) (ni x) (ni y) (ni x)
  have hsz : H.size = h.sz := hR.1
  have hlo2 : Lo s0 h.sz := hR.freeN hlo hlosz
  have kz := k _ (locs ++ (List.range (ni x)).map fun j => ⟨T.heap.size, j⟩) ls hl R1 (by rw [man_bs]; exact hlo) ⟨?_, fun q g1 g2 => ?_, fun q hq => ?_⟩ (by rw [man_rc]; omega) (by rw [man_rs]; omega)
  · obtain ⟨t2, a1, b1⟩ := kz (mnS (T.setVm vm₁) (D.1 47) (D.1 40) (ni x) (ni y) (ni x)) rfl (by
      have e3 : mc - (h.man (ni x) (ni y) (ni x)).rc = mc - h.rc + 1 + ni x := by rw [man_rc]; omega
      have e4 : ms - (h.man (ni x) (ni y) (ni x)).rs = ms - h.rs + ni x + ni x * ni y := by rw [man_rs]; omega
      rw [e3, e4]
      exact X1)
    refine ⟨t2, step t2 ?_, b1⟩
    have : T.heap.size = h.sz := by rw [hT]; exact hR.1
    rw [this]
    exact a1
  · have h0 : s.heap.size ≤ H.size := hS.1
    rw [f1, hT1]; omega
  · have h0 : s.heap.size ≤ H.size := hS.1
    rw [f5 q (by rw [hT1]; omega), hT1]
    exact hS.2.1 q g1 g2
  · rcases List.mem_append.1 hq with hq | hq
    · exact hS.2.2 q hq
    · obtain ⟨j, -, rfl⟩ := List.mem_map.1 hq
      show Lo s0 T.heap.size
      rw [hT, hsz]; exact hlo2
end ROWS24
