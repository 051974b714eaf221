/-! BASE: typed values, abstract heaps, the judgement K over the kit's W -/
set_option maxRecDepth 100000
abbrev SV : Type := Int32 ⊕ Int64 ⊕ Option Nat
abbrev vI (x : Int32) : SV := Sum.inl x
abbrev vJ (x : Int64) : SV := Sum.inr (Sum.inl x)
abbrev vA (x : Option Nat) : SV := Sum.inr (Sum.inr x)
def tV (v : SV) : Value := match v with
  | .inl x => .int x
  | .inr (.inl x) => .long x
  | .inr (.inr r) => va_rf r
def wd (v : SV) : Nat := match v with
  | .inl _ => 1
  | .inr (.inl _) => 2
  | .inr (.inr _) => 1
theorem tV_cat (v : SV) : (tV v).category = wd v := by
  rcases v with x | x | (_ | r) <;> rfl
def tL (q : Nat × SV) : Nat × Value := (q.1, tV q.2)
/-- kinds (tag, length), int fields, long fields, reference fields, int arrays, long arrays, reference arrays; the heap's size; cells, slots left; the first cell that is ours -/
def AH : Type := (Nat → Nat × Nat) × (Nat → Nat → Int32) × (Nat → Nat → Int64) × (Nat → Nat → Option Nat) × (Nat → Nat → Int32) × (Nat → Nat → Int64) × (Nat → Nat → Option Nat) × Nat × Nat × Nat × Nat × (Nat → Nat)
def AH.kd (h : AH) : Nat → Nat × Nat := h.1
def AH.fi (h : AH) : Nat → Nat → Int32 := h.2.1
def AH.fl (h : AH) : Nat → Nat → Int64 := h.2.2.1
def AH.fr (h : AH) : Nat → Nat → Option Nat := h.2.2.2.1
def AH.ai (h : AH) : Nat → Nat → Int32 := h.2.2.2.2.1
def AH.al (h : AH) : Nat → Nat → Int64 := h.2.2.2.2.2.1
def AH.ar (h : AH) : Nat → Nat → Option Nat := h.2.2.2.2.2.2.1
def AH.sz (h : AH) : Nat := h.2.2.2.2.2.2.2.1
def AH.rc (h : AH) : Nat := h.2.2.2.2.2.2.2.2.1
def AH.rs (h : AH) : Nat := h.2.2.2.2.2.2.2.2.2.1
/-- the first cell that is ours; where constants lie -/
def AH.bs (h : AH) : Nat × (Nat → Nat) := h.2.2.2.2.2.2.2.2.2.2
def AH.lo (h : AH) : Nat := h.bs.1
def AH.cs (h : AH) : Nat → Nat := h.bs.2
def AH.mk (kd : Nat → Nat × Nat) (fi : Nat → Nat → Int32) (fl : Nat → Nat → Int64) (fr : Nat → Nat → Option Nat) (ai : Nat → Nat → Int32) (al : Nat → Nat → Int64) (ar : Nat → Nat → Option Nat) (sz rc rs : Nat) (bs : Nat × (Nat → Nat)) : AH := (kd, fi, fl, fr, ai, al, ar, sz, rc, rs, bs)
def up2 {α : Type} (f : Nat → Nat → α) (x y : Nat) (v : α) : Nat → Nat → α := fun a b => if a = x ∧ b = y then v else f a b
def AH.sfi (h : AH) (F a : Nat) (v : Int32) : AH := AH.mk h.kd (up2 h.fi F a v) h.fl h.fr h.ai h.al h.ar h.sz h.rc h.rs h.bs
def AH.sfl (h : AH) (F a : Nat) (v : Int64) : AH := AH.mk h.kd h.fi (up2 h.fl F a v) h.fr h.ai h.al h.ar h.sz h.rc h.rs h.bs
def AH.sfr (h : AH) (F a : Nat) (v : Option Nat) : AH := AH.mk h.kd h.fi h.fl (up2 h.fr F a v) h.ai h.al h.ar h.sz h.rc h.rs h.bs
def AH.sai (h : AH) (a i : Nat) (v : Int32) : AH := AH.mk h.kd h.fi h.fl h.fr (up2 h.ai a i v) h.al h.ar h.sz h.rc h.rs h.bs
def AH.sal (h : AH) (a i : Nat) (v : Int64) : AH := AH.mk h.kd h.fi h.fl h.fr h.ai (up2 h.al a i v) h.ar h.sz h.rc h.rs h.bs
def AH.sar (h : AH) (a i : Nat) (v : Option Nat) : AH := AH.mk h.kd h.fi h.fl h.fr h.ai h.al (up2 h.ar a i v) h.sz h.rc h.rs h.bs
/-- the room left is another one -/
def AH.srm (h : AH) (rc rs : Nat) : AH := AH.mk h.kd h.fi h.fl h.fr h.ai h.al h.ar h.sz rc rs h.bs
/-- a new cell of kind (t, n) with m slots, all blank -/
def AH.new (h : AH) (t n m : Nat) : AH := AH.mk (fun a => if a = h.sz then (t, n) else h.kd a) (fun F a => if a = h.sz then 0 else h.fi F a) (fun F a => if a = h.sz then 0 else h.fl F a) (fun F a => if a = h.sz then none else h.fr F a)
  (fun a i => if a = h.sz then 0 else h.ai a i) (fun a i => if a = h.sz then 0 else h.al a i) (fun a i => if a = h.sz then none else h.ar a i) (h.sz + 1) (h.rc - 1) (h.rs - m) h.bs
def adr (r : Option Nat) : Nat := r.getD 0
def ni (x : Int32) : Nat := x.toNatClampNeg
/-- r is an object (array) of the kind t -/
def nn (h : AH) (r : Option Nat) (t : Nat) : Prop := ∃ a, r = some a ∧ (h.kd a).1 = t
/-- r is an array of the kind t, i an index of it -/
def ix (h : AH) (r : Option Nat) (t : Nat) (i : Int32) : Prop := ∃ a, r = some a ∧ (h.kd a).1 = t ∧ vp_in i (h.kd a).2
def jshl (x y : Int32) : Int32 := x <<< (y &&& 31)
def jshr (x y : Int32) : Int32 := x >>> (y &&& 31)
def jushr (x y : Int32) : Int32 := (x.toUInt32 >>> (y.toUInt32 &&& Int32.toUInt32 31)).toInt32
def jrem (x y : Int32) : Int32 := x - x / y * y
def ji2c (x : Int32) : Int32 := (x.toUInt32 % 65536).toInt32
/-- classes by their tags: name, fields, how many, their types -/
def CL : Nat → Option (String × u_T × Nat × (Nat → FieldType)) := fun t => match t with
  | 1 => some (RX0, TX0, 12, tyX0)
  | 2 => some (RX1, TX1, 75, tyX1)
  | 3 => some (RX2, TX2, 14, tyX2)
  | 4 => some (RX3, TX3, 5, tyX3)
  | 5 => some (RX4, TX4, 8, tyX4)
  | 6 => some (RX5, TX5, 6, tyX5)
  | 7 => some (RX6, TX6, 7, tyX6)
  | 8 => some (RX8, TX8, 3, tyX8)
  | 9 => some (RX9, TX10, 0, tyX10)
  | 10 => some (RX10, TX10, 1, tyX10)
  | 11 => some (RX11, TX11, 1, tyX11)
  | 12 => some (RX12, TX12, 3, tyX12)
  | 13 => some (RX13, TX13, 4, tyX13)
  | 14 => some (RX14, TX14, 9, tyX14)
  | 15 => some (RX15, TX15, 9, tyX15)
  | 16 => some (RX16, TX16, 4, tyX16)
  | 17 => some (RX17, TX17, 13, tyX17)
  | 18 => some (RX18, TX18, 4, tyX18)
  | 19 => some (RX19, TX19, 2, tyX19)
  | 20 => some (RX20, TX20, 2, tyX20)
  | 21 => some (RJ1, TJ1, 4, tyJ1)
  | 22 => some (RJ2, TJ2, 4, tyJ2)
  | 23 => some (RJ12, TJ12, 3, tyJ12)
  | 24 => some (RJ16, TJ16, 4, tyJ16)
  | 25 => some (RJ20, TJ20, 1, tyJ20)
  | _ => none
/-- array types by their tags -/
def AR : Nat → Option FieldType := fun t => match t with
  | 40 => some (.int)
  | 41 => some (.byte)
  | 42 => some (.boolean)
  | 43 => some (.long)
  | 44 => some (.object "java/lang/Object")
  | 45 => some (.object "RuleShuttle$Joins")
  | 46 => some (.object "RuleShuttle$Part")
  | 47 => some (.array .int)
  | 48 => some (.object "java/lang/Integer")
  | _ => none
theorem CL_ok : ∀ (t : Nat) (i : String × u_T × Nat × (Nat → FieldType)), CL t = some i → (∀ w ∈ u_ws i.1 i.2.1 i.2.2.1, w ∈ lw_all) ∧ (∀ k, k < i.2.2.1 → parseFieldDescriptor (i.2.1 k).2.2.1 = some (i.2.2.2 k)) ∧ (∀ a, a < i.2.2.1 → ∀ b, b < i.2.2.1 → a ≠ b → (i.2.1 a).2.1 ≠ (i.2.1 b).2.1) := by
  intro t i h
  unfold CL at h
  split at h
  · cases h; exact ⟨in_X0, tyX0_ok, nmX0⟩
  · cases h; exact ⟨in_X1, tyX1_ok, nmX1⟩
  · cases h; exact ⟨in_X2, tyX2_ok, nmX2⟩
  · cases h; exact ⟨in_X3, tyX3_ok, nmX3⟩
  · cases h; exact ⟨in_X4, tyX4_ok, nmX4⟩
  · cases h; exact ⟨in_X5, tyX5_ok, nmX5⟩
  · cases h; exact ⟨in_X6, tyX6_ok, nmX6⟩
  · cases h; exact ⟨in_X8, tyX8_ok, nmX8⟩
  · cases h; exact ⟨fun w hw => by simp [u_ws] at hw, fun k hk => absurd hk (Nat.not_lt_zero k), fun a ha => absurd ha (Nat.not_lt_zero a)⟩
  · cases h; exact ⟨in_X10, tyX10_ok, nmX10⟩
  · cases h; exact ⟨in_X11, tyX11_ok, nmX11⟩
  · cases h; exact ⟨in_X12, tyX12_ok, nmX12⟩
  · cases h; exact ⟨in_X13, tyX13_ok, nmX13⟩
  · cases h; exact ⟨in_X14, tyX14_ok, nmX14⟩
  · cases h; exact ⟨in_X15, tyX15_ok, nmX15⟩
  · cases h; exact ⟨in_X16, tyX16_ok, nmX16⟩
  · cases h; exact ⟨in_X17, tyX17_ok, nmX17⟩
  · cases h; exact ⟨in_X18, tyX18_ok, nmX18⟩
  · cases h; exact ⟨in_X19, tyX19_ok, nmX19⟩
  · cases h; exact ⟨in_X20, tyX20_ok, nmX20⟩
  · cases h; exact ⟨in_J1, tyJ1_ok, nmJ1⟩
  · cases h; exact ⟨in_J2, tyJ2_ok, nmJ2⟩
  · cases h; exact ⟨in_J12, tyJ12_ok, nmJ12⟩
  · cases h; exact ⟨in_J16, tyJ16_ok, nmJ16⟩
  · cases h; exact ⟨in_J20, tyJ20_ok, nmJ20⟩
  · cases h
def fval (ty : FieldType) (h : AH) (F a : Nat) : SV := match ty with
  | .long => vJ (h.fl F a)
  | .object _ => vA (h.fr F a)
  | .array _ => vA (h.fr F a)
  | _ => vI (h.fi F a)
def acont (ty : FieldType) (h : AH) (a : Nat) : vp_A := ((h.kd a).2, match ty with
  | .long => .inr (.inl (h.al a))
  | .object _ => .inr (.inr (.inr (.inr (h.ar a))))
  | .array _ => .inr (.inr (.inr (.inr (h.ar a))))
  | _ => .inl (h.ai a))
/-- a cell c as c0 tells; a constant's cell (below lo): its class and its slots -/
def wkc (lo a : Nat) (c c0 : Cell) : Prop := c.cls = c0.cls ∧ c.slots = c0.slots ∧ c.vm ≠ .unknown ∧ (∀ k, c.vm ≠ .statics k) ∧ (lo ≤ a → c = c0)
def aO (lo a : Nat) (H : Heap) (c0 : Cell) : Prop := ∃ cell : Cell, H[a]? = some cell ∧ wkc lo a cell c0
def tO (lo o : Nat) (cC : ClassId) (N : Nat) (iS : Nat → Nat) (H : Heap) (V : Nat → Value) : Prop :=
  ∃ cell : Cell, H[o]? = some cell ∧ cell.cls = cC ∧ (cell.vm ≠ .unknown ∧ cell.vm.isStatics = false ∧ (lo ≤ o → cell.vm = .none)) ∧ ∀ k, k < N → cell.slots[iS k]? = some (V k)
theorem tO.kept {lo o : Nat} {cC : ClassId} {N : Nat} {iS : Nat → Nat} {H H1 : Heap} {V : Nat → Value} (h : tO lo o cC N iS H V) (h1 : H1[o]? = H[o]?) : tO lo o cC N iS H1 V := by
  obtain ⟨cell, q, r⟩ := h
  exact ⟨cell, by rw [h1]; exact q, r⟩
theorem tO.to {lo o : Nat} {cC : ClassId} {N : Nat} {iS : Nat → Nat} {H : Heap} {V V' : Nat → Value} (h : tO lo o cC N iS H V) (hv : ∀ k, k < N → V k = V' k) : tO lo o cC N iS H V' := by
  obtain ⟨cell, q, r1, r2, r3⟩ := h
  exact ⟨cell, q, r1, r2, fun k hk => by rw [← hv k hk]; exact r3 k hk⟩
theorem tO.of {lo o : Nat} {cC : ClassId} {N : Nat} {iS : Nat → Nat} {H : Heap} {V : Nat → Value} (h : t_OB o cC N iS H V) : tO lo o cC N iS H V := by
  obtain ⟨cell, q, r1, r2, r3⟩ := h
  exact ⟨cell, q, r1, ⟨by rw [r2]; exact fun h => (by cases h), by rw [r2]; rfl, fun _ => r2⟩, r3⟩
theorem vp_cell_vm (c : ClassId) (x : vp_A) : (vp_cell c x).vm = .none := by
  obtain ⟨n, f | f | f | f | f⟩ := x <;> rfl
theorem vp_cell_cls (c : ClassId) (x : vp_A) : (vp_cell c x).cls = c := by
  obtain ⟨n, f | f | f | f | f⟩ := x <;> rfl
theorem aO.of {lo a : Nat} {H : Heap} {c : ClassId} {x : vp_A} (h : H[a]? = some (vp_cell c x)) : aO lo a H (vp_cell c x) :=
  ⟨_, h, rfl, rfl, by rw [vp_cell_vm]; exact fun h => (by cases h), fun k => by rw [vp_cell_vm]; exact fun h => (by cases h), fun _ => rfl⟩
theorem aO.get {lo a : Nat} {H : Heap} {c0 : Cell} (h : aO lo a H c0) (hl : lo ≤ a) : H[a]? = some c0 := by
  obtain ⟨cell, q, -, -, -, -, e⟩ := h
  rw [q, e hl]
theorem aO.kept {lo a : Nat} {H H1 : Heap} {c0 : Cell} (h : aO lo a H c0) (h1 : H1[a]? = H[a]?) : aO lo a H1 c0 := by
  obtain ⟨cell, q, r⟩ := h
  exact ⟨cell, by rw [h1]; exact q, r⟩
theorem isArr_of {s : State} {c c0 : Cell} {ty : FieldType} (e : c.cls = c0.cls) (n : ∀ k, c.vm ≠ .statics k) (h : s.isArrayOf c0 ty) : s.isArrayOf c ty := ⟨n, by rw [e]; exact h.2⟩
/-- the cell at a is as the abstract heap says -/
def cok (D : va_G) (H : Heap) (h : AH) (a : Nat) : Prop :=
  (∀ i, CL (h.kd a).1 = some i → tO h.lo a (D.1 (h.kd a).1) i.2.2.1 (D.2 (h.kd a).1) H (fun k => tV (fval (i.2.2.2 k) h (100 * (h.kd a).1 + k) a))) ∧
  (∀ ty, AR (h.kd a).1 = some ty → aO h.lo a H (vp_cell (D.1 (h.kd a).1) (acont ty h a)))
/-- kinds of which constants may be -/
def ROk (t : Nat) : Bool := t == 22 || t == 41 || t == 25 || t == 48 || t == 0
/-- no kinds behind the end; what has a kind, what is behind the end is not in the hole (cells that stay as they are: cs 1000 + a is 1) -/
def Kz (h : AH) : Prop := (∀ a, h.sz ≤ a → (h.kd a).1 = 0) ∧ (∀ a, (h.kd a).1 ≠ 0 → h.cs (1000 + a) = 0) ∧ ∀ a, h.sz ≤ a → h.cs (1000 + a) = 0
def Rp (D : va_G) (H : Heap) (h : AH) : Prop := H.size = h.sz ∧ Kz h ∧ (∀ a, ROk (h.kd a).1 = false → h.lo ≤ a) ∧ ∀ a, cok D H h a
/-- a start: the state, the hole -/
abbrev S0 : Type := State × (Nat → Bool)
def DS (s0 : S0) (s : State) : Prop := s0.1.WarmedH s.vm ∧ s0.1.heap.size ≤ s.heap.size ∧ ∀ q, q < s0.1.heap.size → s.heap[q]? = s0.1.heap[q]?
/-- no array of Integers: of the one that there is, its class's name is not told -/
def NI (ty : FieldType) : Prop := ty ≠ .object "java/lang/Integer"
/-- what the start tells: the tables' words, the classes, the array classes, the Statement's premises -/
def G0 (D : va_G) (s0 : S0) : Prop :=
  (∃ b0 : Nat, (∀ w ∈ lw_tbl, w.before #[Value.ref b0] s0.1 = true) ∧ (Jvm.Cond.and given_1 narrow_1).before #[Value.ref b0] s0.1 = true) ∧
  (∀ t i, CL t = some i → u_Kn s0.1 i.1 i.2.1 i.2.2.1 (D.1 t) (D.2 t)) ∧ (∀ t ty, AR t = some ty → ArrOfT s0.1 (D.1 t) ty ∧ (NI ty → va_RA s0.1 (D.1 t) ty))
theorem DS.kn {D : va_G} {s0 : S0} {s : State} (hG : G0 D s0) (hd : DS s0 s) {t : Nat} {i : String × u_T × Nat × (Nat → FieldType)} (h : CL t = some i) : u_Kn s i.1 i.2.1 i.2.2.1 (D.1 t) (D.2 t) := u_Kn_moved hd.1.alike (hG.2.1 t i h)
theorem DS.ar {D : va_G} {s0 : S0} {s : State} (hG : G0 D s0) (hd : DS s0 s) {t : Nat} {ty : FieldType} (h : AR t = some ty) : ArrOfT s (D.1 t) ty ∧ (NI ty → va_RA s (D.1 t) ty) := ⟨arrOfT_moved hd.1.alike (hG.2.2 t ty h).1, fun q => ((hG.2.2 t ty h).2 q).moved hd.1.alike⟩
/-- where the constants lie: Strings by (class, entry), their bytes, statics, lambdas' objects -/
def strs : List (String × Nat) := [("RuleShuttle$Reader", 15), ("RuleShuttle$Reader", 63), ("RuleShuttle$Reader", 98), ("RuleShuttle$Reader", 100), ("RuleShuttle$Reader", 102), ("RuleShuttle$Reader", 104), ("RuleShuttle$Reader", 106), ("RuleShuttle$Reader", 108), ("RuleShuttle$Reader", 110), ("RuleShuttle$Reader", 112), ("RuleShuttle$Reader", 114), ("RuleShuttle$Reader", 204), ("RuleShuttle$Reader", 220), ("RuleShuttle$Reader", 240), ("RuleShuttle$Reader", 284), ("RuleShuttle$Reader", 289), ("RuleShuttle$Reader", 303), ("RuleShuttle$Reader", 268), ("RuleShuttle$Reader", 270), ("RuleShuttle$Reader", 272), ("RuleShuttle$Reader", 274), ("RuleShuttle$Reader", 276), ("RuleShuttle$Reader", 278), ("RuleShuttle$Reader", 147)]
def ctm (j : Nat) : Term :=
  if j < 100 then (match strs[j]? with
    | some q => .string q.1 q.2
    | none => .int 0)
  else if j < 200 then (match strs[j - 100]? with
    | some q => .field (.string q.1 q.2) "java/lang/String" "value" "[B"
    | none => .int 0)
  else if j < 500 then .elem (.static "java/lang/Integer$IntegerCache" "cache" "[Ljava/lang/Integer;") (.int (Int32.ofNat (j - 200)))
  else (match j with
    | 500 => .static "java/lang/Integer$IntegerCache" "cache" "[Ljava/lang/Integer;"
    | 501 => .mirror "[Ljava/lang/Object;"
    | 502 => .static "java/util/ArrayList" "DEFAULTCAPACITY_EMPTY_ELEMENTDATA" "[Ljava/lang/Object;"
    | 503 => .static "java/util/ArrayList" "EMPTY_ELEMENTDATA" "[Ljava/lang/Object;"
    | 504 => .static "java/lang/Throwable" "UNASSIGNED_STACK" "[Ljava/lang/StackTraceElement;"
    | 505 => .static "java/lang/Throwable" "SUPPRESSED_SENTINEL" "Ljava/util/List;"
    | 506 => .static "jdk/internal/util/Preconditions" "SIOOBE_FORMATTER" "Ljava/util/function/BiFunction;"
    | _ => .int 0)
/-- 0: null; a + 1: the cell a -/
def csEnc (v : Option Value) : Nat := match v with
  | some (.ref a) => a + 1
  | _ => 0
/-- the lambdas of the constructor: pc, entry, shape -/
def lsh : List (Nat × Nat × Lambda.Shape) := [(12, 15, ({ iface := "RuleShuttle$Joins", name := "of", sam := ({ parameters := [Jvm.ClassFile.FieldType.int, Jvm.ClassFile.FieldType.int], returnType := (Option.some Jvm.ClassFile.FieldType.int) } : Jvm.ClassFile.MethodDescriptor), captured := [], kind := 6, implClass := "RuleShuttle", implName := "lambda$new$0", implDesc := ({ parameters := [Jvm.ClassFile.FieldType.int, Jvm.ClassFile.FieldType.int], returnType := (Option.some Jvm.ClassFile.FieldType.int) } : Jvm.ClassFile.MethodDescriptor), implItf := false, inst := ({ parameters := [Jvm.ClassFile.FieldType.int, Jvm.ClassFile.FieldType.int], returnType := (Option.some Jvm.ClassFile.FieldType.int) } : Jvm.ClassFile.MethodDescriptor) } : Jvm.Lambda.Shape)),
  (20, 19, ({ iface := "RuleShuttle$Joins", name := "of", sam := ({ parameters := [Jvm.ClassFile.FieldType.int, Jvm.ClassFile.FieldType.int], returnType := (Option.some Jvm.ClassFile.FieldType.int) } : Jvm.ClassFile.MethodDescriptor), captured := [], kind := 6, implClass := "RuleShuttle", implName := "lambda$new$1", implDesc := ({ parameters := [Jvm.ClassFile.FieldType.int, Jvm.ClassFile.FieldType.int], returnType := (Option.some Jvm.ClassFile.FieldType.int) } : Jvm.ClassFile.MethodDescriptor), implItf := false, inst := ({ parameters := [Jvm.ClassFile.FieldType.int, Jvm.ClassFile.FieldType.int], returnType := (Option.some Jvm.ClassFile.FieldType.int) } : Jvm.ClassFile.MethodDescriptor) } : Jvm.Lambda.Shape)),
  (28, 20, ({ iface := "RuleShuttle$Joins", name := "of", sam := ({ parameters := [Jvm.ClassFile.FieldType.int, Jvm.ClassFile.FieldType.int], returnType := (Option.some Jvm.ClassFile.FieldType.int) } : Jvm.ClassFile.MethodDescriptor), captured := [], kind := 6, implClass := "RuleShuttle", implName := "lambda$new$2", implDesc := ({ parameters := [Jvm.ClassFile.FieldType.int, Jvm.ClassFile.FieldType.int], returnType := (Option.some Jvm.ClassFile.FieldType.int) } : Jvm.ClassFile.MethodDescriptor), implItf := false, inst := ({ parameters := [Jvm.ClassFile.FieldType.int, Jvm.ClassFile.FieldType.int], returnType := (Option.some Jvm.ClassFile.FieldType.int) } : Jvm.ClassFile.MethodDescriptor) } : Jvm.Lambda.Shape)),
  (36, 21, ({ iface := "RuleShuttle$Joins", name := "of", sam := ({ parameters := [Jvm.ClassFile.FieldType.int, Jvm.ClassFile.FieldType.int], returnType := (Option.some Jvm.ClassFile.FieldType.int) } : Jvm.ClassFile.MethodDescriptor), captured := [], kind := 6, implClass := "RuleShuttle", implName := "lambda$new$3", implDesc := ({ parameters := [Jvm.ClassFile.FieldType.int, Jvm.ClassFile.FieldType.int], returnType := (Option.some Jvm.ClassFile.FieldType.int) } : Jvm.ClassFile.MethodDescriptor), implItf := false, inst := ({ parameters := [Jvm.ClassFile.FieldType.int, Jvm.ClassFile.FieldType.int], returnType := (Option.some Jvm.ClassFile.FieldType.int) } : Jvm.ClassFile.MethodDescriptor) } : Jvm.Lambda.Shape)),
  (44, 22, ({ iface := "RuleShuttle$Joins", name := "of", sam := ({ parameters := [Jvm.ClassFile.FieldType.int, Jvm.ClassFile.FieldType.int], returnType := (Option.some Jvm.ClassFile.FieldType.int) } : Jvm.ClassFile.MethodDescriptor), captured := [], kind := 6, implClass := "RuleShuttle", implName := "lambda$new$4", implDesc := ({ parameters := [Jvm.ClassFile.FieldType.int, Jvm.ClassFile.FieldType.int], returnType := (Option.some Jvm.ClassFile.FieldType.int) } : Jvm.ClassFile.MethodDescriptor), implItf := false, inst := ({ parameters := [Jvm.ClassFile.FieldType.int, Jvm.ClassFile.FieldType.int], returnType := (Option.some Jvm.ClassFile.FieldType.int) } : Jvm.ClassFile.MethodDescriptor) } : Jvm.Lambda.Shape)),
  (52, 23, ({ iface := "RuleShuttle$Joins", name := "of", sam := ({ parameters := [Jvm.ClassFile.FieldType.int, Jvm.ClassFile.FieldType.int], returnType := (Option.some Jvm.ClassFile.FieldType.int) } : Jvm.ClassFile.MethodDescriptor), captured := [], kind := 6, implClass := "RuleShuttle", implName := "lambda$new$5", implDesc := ({ parameters := [Jvm.ClassFile.FieldType.int, Jvm.ClassFile.FieldType.int], returnType := (Option.some Jvm.ClassFile.FieldType.int) } : Jvm.ClassFile.MethodDescriptor), implItf := false, inst := ({ parameters := [Jvm.ClassFile.FieldType.int, Jvm.ClassFile.FieldType.int], returnType := (Option.some Jvm.ClassFile.FieldType.int) } : Jvm.ClassFile.MethodDescriptor) } : Jvm.Lambda.Shape)),
  (61, 24, ({ iface := "RuleShuttle$Joins", name := "of", sam := ({ parameters := [Jvm.ClassFile.FieldType.int, Jvm.ClassFile.FieldType.int], returnType := (Option.some Jvm.ClassFile.FieldType.int) } : Jvm.ClassFile.MethodDescriptor), captured := [], kind := 6, implClass := "RuleShuttle", implName := "greater", implDesc := ({ parameters := [Jvm.ClassFile.FieldType.int, Jvm.ClassFile.FieldType.int], returnType := (Option.some Jvm.ClassFile.FieldType.int) } : Jvm.ClassFile.MethodDescriptor), implItf := false, inst := ({ parameters := [Jvm.ClassFile.FieldType.int, Jvm.ClassFile.FieldType.int], returnType := (Option.some Jvm.ClassFile.FieldType.int) } : Jvm.ClassFile.MethodDescriptor) } : Jvm.Lambda.Shape)),
  (70, 25, ({ iface := "RuleShuttle$Joins", name := "of", sam := ({ parameters := [Jvm.ClassFile.FieldType.int, Jvm.ClassFile.FieldType.int], returnType := (Option.some Jvm.ClassFile.FieldType.int) } : Jvm.ClassFile.MethodDescriptor), captured := [], kind := 6, implClass := "RuleShuttle", implName := "lesser", implDesc := ({ parameters := [Jvm.ClassFile.FieldType.int, Jvm.ClassFile.FieldType.int], returnType := (Option.some Jvm.ClassFile.FieldType.int) } : Jvm.ClassFile.MethodDescriptor), implItf := false, inst := ({ parameters := [Jvm.ClassFile.FieldType.int, Jvm.ClassFile.FieldType.int], returnType := (Option.some Jvm.ClassFile.FieldType.int) } : Jvm.ClassFile.MethodDescriptor) } : Jvm.Lambda.Shape))]
def csOf (s0 : S0) (j : Nat) : Nat :=
  if j < 600 then csEnc ((ctm j).eval #[] s0.1 none [] s0.1)
  else (match lsh[j - 600]? with
    | some q => (match s0.1.lambdaAt? ⟨"RuleShuttle", "<init>", "()V"⟩ q.1 q.2.1 q.2.2 with
      | some (_, some a) => a + 1
      | _ => 0)
    | none => if s0.2 (j - 1000) = true then 1 else 0)
def sref (n : Nat) : Option Nat := if n = 0 then none else some (n - 1)
def bsOf (s0 : S0) : Nat × (Nat → Nat) := (s0.1.heap.size, csOf s0)
theorem lo_of {h : AH} {s0 : S0} (hb : h.bs = bsOf s0) : h.lo = s0.1.heap.size := congrArg Prod.fst hb
theorem lsh_len : lsh.length = 8 := rfl
theorem cs_hole (s0 : S0) (a : Nat) : csOf s0 (1000 + a) = if s0.2 a = true then 1 else 0 := by
  have e : lsh[1000 + a - 600]? = none := List.getElem?_eq_none (by rw [lsh_len]; omega)
  unfold csOf
  rw [if_neg (by omega), e, Nat.add_sub_cancel_left]
def Lo (s0 : S0) : Nat → Prop := fun q => s0.1.heap.size ≤ q ∧ s0.2 q = false
theorem CL_ne {t : Nat} {i : String × u_T × Nat × (Nat → FieldType)} (h : CL t = some i) : t ≠ 0 := fun e => by rw [e] at h; cases h
theorem AR_ne {t : Nat} {ty : FieldType} (h : AR t = some ty) : t ≠ 0 := fun e => by rw [e] at h; cases h
theorem hole_of {h : AH} {s0 : S0} (hb : h.bs = bsOf s0) {a : Nat} (hc : h.cs (1000 + a) = 0) : s0.2 a = false := by
  have e : h.cs (1000 + a) = csOf s0 (1000 + a) := by
    show h.bs.2 _ = _
    rw [hb]; rfl
  rw [e, cs_hole] at hc
  cases hx : s0.2 a with
  | false => rfl
  | true => rw [hx, if_pos rfl] at hc; cases hc
theorem Rp.free {D : va_G} {H : Heap} {h : AH} {s0 : S0} (hR : Rp D H h) (hb : h.bs = bsOf s0) {a : Nat} (hk : (h.kd a).1 ≠ 0) (hl : h.lo ≤ a) : Lo s0 a := ⟨by rw [← lo_of hb]; exact hl, hole_of hb (hR.2.1.2.1 a hk)⟩
theorem Rp.freeN {D : va_G} {H : Heap} {h : AH} {s0 : S0} (hR : Rp D H h) (hb : h.bs = bsOf s0) (hl : h.lo ≤ h.sz) : Lo s0 h.sz := ⟨by rw [← lo_of hb]; exact hl, hole_of hb (hR.2.1.2.2 h.sz (Nat.le_refl _))⟩
def KK (p : Program) (l : Launch) (e : Env) (R : Room) (s : State) (m : MethodId) (args : Array Value) (below : List Frame) (meth : Method) (c : Code) (D : va_G) (s0 : S0) (nL mc ms : Nat) (Z : State → Prop) (pc : Nat) (L : List (Nat × SV)) (st : List SV) (h : AH) : Prop :=
  ∀ (H : Heap) (locs : List Loc) (ls : Array Slot), lv_has ls nL (L.map tL) → Rp D H h → h.bs = bsOf s0 → va_S (Lo s0) s.heap H locs → h.rc ≤ mc → h.rs ≤ ms →
    W p l e R s m args below meth c H locs (mc - h.rc) (ms - h.rs) Z (F0 m pc ls (st.map tV))
abbrev KT : Type := Nat → List (Nat × SV) → List SV → AH → Prop
/-- how a method ends: its answer and the heap then -/
def Qg (D : va_G) (s0 : S0) (Q : Option SV → AH → Prop) : Array Value → State → Outcome → State → Prop := fun _ st o t => ∃ (v : Option SV) (h : AH), o = .returned (v.map tV) ∧ Q v h ∧ Rp D t.heap h ∧ h.bs = bsOf s0 ∧ va_F (Lo s0) st t
/-- the place where a method's body is walked -/
def Cx (l : Launch) (D : va_G) (s0 : S0) (cc : ByteArray) (own mn : String) (nL fr lw mc ms : Nat) (ret : Option FieldType) (Q : Option SV → AH → Prop) (K : KT) : Prop :=
  ∃ (p : Program) (e : Env) (R : Room) (s : State) (m : MethodId) (args : Array Value) (below : List Frame) (meth : Method) (c : Code) (Z : State → Prop),
    p.tables.exec = Jvm.exec ∧ c.code = cc ∧ c.maxLocals = nL ∧ s.vm.findClass own = some m.cls ∧ (∀ w ∈ lw_all, w.before args s = true) ∧ DS s0 s ∧ G0 D s0 ∧ (R.frames = fr ∧ R.locals = lw ∧ R.cells = mc ∧ R.slots = ms) ∧
    (meth.sig.returnType = ret ∧ meth.locks = false ∧ meth.name = mn) ∧ (∀ (H : Heap) (locs : List Loc) (k n : Nat) (g : JFrame), W p l e R s m args below meth c H locs k n (MQ below (Qg D s0 Q) args s mc ms (Lo s0)) g → W p l e R s m args below meth c H locs k n Z g) ∧
    K = KK p l e R s m args below meth c D s0 nL mc ms Z
/-! plain instructions: what they make of the locals and the stack -/
def lk (n : Nat) : List (Nat × SV) → Option SV
  | [] => none
  | q :: l => bif Nat.beq q.1 n then some q.2 else lk n l
theorem lk_mem {n : Nat} {v : SV} : ∀ {L : List (Nat × SV)}, lk n L = some v → (n, v) ∈ L
  | [], h => by cases h
  | q :: l, h => by
    unfold lk at h
    cases hb : Nat.beq q.1 n with
    | true =>
      rw [hb] at h
      have h1 : q.1 = n := Nat.eq_of_beq_eq_true hb
      have h2 : q.2 = v := Option.some.inj h
      rw [← h1, ← h2]
      exact List.mem_cons_self
    | false =>
      rw [hb] at h
      exact List.mem_cons_of_mem _ (lk_mem h)
def rm1 (n : Nat) (L : List (Nat × SV)) : List (Nat × SV) := L.filter (fun q => !(q.1 == n) && !(q.1 + 1 == n && wd q.2 == 2))
def rm2 (n : Nat) (L : List (Nat × SV)) : List (Nat × SV) := L.filter (fun q => !(q.1 == n) && (!(q.1 == n + 1) && !(q.1 + 1 == n && wd q.2 == 2)))
def psI (L : List (Nat × SV)) (st : List SV) (n : Nat) : Option (List (Nat × SV) × List SV) := match lk n L with
  | some (.inl x) => some (L, vI x :: st)
  | _ => none
def psJ (L : List (Nat × SV)) (st : List SV) (n : Nat) : Option (List (Nat × SV) × List SV) := match lk n L with
  | some (.inr (.inl x)) => some (L, vJ x :: st)
  | _ => none
def psA (L : List (Nat × SV)) (st : List SV) (n : Nat) : Option (List (Nat × SV) × List SV) := match lk n L with
  | some (.inr (.inr x)) => some (L, vA x :: st)
  | _ => none
def psB (f : Int32 → Int32 → Int32) (L : List (Nat × SV)) (st : List SV) : Option (List (Nat × SV) × List SV) := match st with
  | .inl y :: .inl x :: st => some (L, vI (f x y) :: st)
  | _ => none
def psN (f : Int32 → Int32) (L : List (Nat × SV)) (st : List SV) : Option (List (Nat × SV) × List SV) := match st with
  | .inl x :: st => some (L, vI (f x) :: st)
  | _ => none
def psC (f : Int64 → Int64 → Int64) (L : List (Nat × SV)) (st : List SV) : Option (List (Nat × SV) × List SV) := match st with
  | .inr (.inl y) :: .inr (.inl x) :: st => some (L, vJ (f x y) :: st)
  | _ => none
def ln (i : Instr) : Nat := match i with
  | .bipush _ => 2
  | .sipush _ => 3
  | .iload _ => 2
  | .lload _ => 2
  | .aload _ => 2
  | .istore _ => 2
  | .lstore _ => 2
  | .astore _ => 2
  | .iinc _ _ => 3
  | _ => 1
def ps (nL : Nat) (i : Instr) (L : List (Nat × SV)) (st : List SV) : Option (List (Nat × SV) × List SV) := match i with
  | .iconst n => some (L, vI (Int32.ofInt n) :: st)
  | .bipush n => bif decide (-128 ≤ n) && decide (n ≤ 127) then some (L, vI (Int32.ofInt n) :: st) else none
  | .sipush n => bif decide (-32768 ≤ n) && decide (n ≤ 32767) then some (L, vI (Int32.ofInt n) :: st) else none
  | .lconst n => some (L, vJ (Int64.ofNat n) :: st)
  | .aconst_null => some (L, vA none :: st)
  | .iload_n k => psI L st k
  | .iload k => psI L st k
  | .lload_n k => psJ L st k
  | .lload k => psJ L st k
  | .aload_n k => psA L st k
  | .aload k => psA L st k
  | .istore_n k => match st with
    | .inl x :: st => bif Nat.blt k nL then some ((k.val, vI x) :: rm1 k L, st) else none
    | _ => none
  | .istore k => match st with
    | .inl x :: st => bif Nat.blt k nL then some ((k, vI x) :: rm1 k L, st) else none
    | _ => none
  | .lstore_n k => match st with
    | .inr (.inl x) :: st => bif Nat.blt (k + 1) nL then some ((k.val, vJ x) :: rm2 k L, st) else none
    | _ => none
  | .lstore k => match st with
    | .inr (.inl x) :: st => bif Nat.blt (k + 1) nL then some ((k, vJ x) :: rm2 k L, st) else none
    | _ => none
  | .astore_n k => match st with
    | .inr (.inr x) :: st => bif Nat.blt k nL then some ((k.val, vA x) :: rm1 k L, st) else none
    | _ => none
  | .astore k => match st with
    | .inr (.inr x) :: st => bif Nat.blt k nL then some ((k, vA x) :: rm1 k L, st) else none
    | _ => none
  | .iinc k n => match lk k L with
    | some (.inl x) => bif Nat.blt k nL then some ((k, vI (x + Int32.ofInt n)) :: rm1 k L, st) else none
    | _ => none
  | .iadd => psB (fun x y => x + y) L st
  | .isub => psB (fun x y => x - y) L st
  | .imul => psB (fun x y => x * y) L st
  | .iand => psB (fun x y => x &&& y) L st
  | .ior => psB (fun x y => x ||| y) L st
  | .ixor => psB (fun x y => x ^^^ y) L st
  | .ishl => psB jshl L st
  | .ishr => psB jshr L st
  | .iushr => psB jushr L st
  | .ineg => psN (fun x => -x) L st
  | .i2b => psN (fun x => x.toInt8.toInt32) L st
  | .i2c => psN ji2c L st
  | .idiv => match st with
    | .inl y :: .inl x :: st => bif decide (y = 0) then none else some (L, vI (x / y) :: st)
    | _ => none
  | .irem => match st with
    | .inl y :: .inl x :: st => bif decide (y = 0) then none else some (L, vI (jrem x y) :: st)
    | _ => none
  | .ladd => psC (fun x y => x + y) L st
  | .lsub => psC (fun x y => x - y) L st
  | .lmul => psC (fun x y => x * y) L st
  | .i2l => match st with
    | .inl x :: st => some (L, vJ x.toInt64 :: st)
    | _ => none
  | .lcmp => match st with
    | .inr (.inl y) :: .inr (.inl x) :: st => some (L, vI (lg_cmp x y) :: st)
    | _ => none
  | .dup => match st with
    | v :: st => bif Nat.beq (wd v) 1 then some (L, v :: v :: st) else none
    | _ => none
  | .pop => match st with
    | v :: st => bif Nat.beq (wd v) 1 then some (L, st) else none
    | _ => none
  | .dup_x1 => match st with
    | v :: u :: st => bif Nat.beq (wd v) 1 && Nat.beq (wd u) 1 then some (L, v :: u :: v :: st) else none
    | _ => none
  | .dup2 => match st with
    | v :: u :: st => bif Nat.beq (wd v) 1 && Nat.beq (wd u) 1 then some (L, v :: u :: v :: u :: st) else none
    | _ => none
  | _ => none
def psL (nL : Nat) : List (Instr × Nat) → List (Nat × SV) → List SV → Option (List (Nat × SV) × List SV)
  | [], L, st => some (L, st)
  | q :: r, L, st => bif Nat.beq (ln q.1) q.2 then (match ps nL q.1 L st with
    | some x => psL nL r x.1 x.2
    | none => none) else none
def Decs (cc : ByteArray) : Nat → List (Instr × Nat) → Nat → Prop
  | pc, [], pc' => pc = pc'
  | pc, q :: r, pc' => decode cc pc = .ok q ∧ Decs cc (pc + q.2) r pc'
theorem lk_at {ls : Array Slot} {nL n : Nat} {v : SV} {L : List (Nat × SV)} (hl : lv_has ls nL (L.map tL)) (h : lk n L = some v) : ls[n]? = some (.val (tV v)) := hl.2.2 (n, tV v) (List.mem_map.mpr ⟨(n, v), lk_mem h, rfl⟩)
theorem rm1_map (n : Nat) (L : List (Nat × SV)) : (L.map tL).filter (fun q => !(q.1 == n) && !(q.1 + 1 == n && q.2.category == 2)) = (rm1 n L).map tL := by
  unfold rm1
  rw [List.filter_map]
  congr 1
  apply List.filter_congr
  intro q _
  simp [tL, tV_cat]
theorem rm2_map (n : Nat) (L : List (Nat × SV)) : (L.map tL).filter (fun q => !(q.1 == n) && (!(q.1 == n + 1) && !(q.1 + 1 == n && q.2.category == 2))) = (rm2 n L).map tL := by
  unfold rm2
  rw [List.filter_map]
  congr 1
  apply List.filter_congr
  intro q _
  simp [tL, tV_cat]
theorem i8_of {n : Int} (h1 : -128 ≤ n) (h2 : n ≤ 127) : (Int8.ofInt n).toInt32 = Int32.ofInt n := by
  apply Int32.toInt_inj.mp
  rw [Int8.toInt_toInt32, Int8.toInt_ofInt_of_le (by omega) (by omega), Int32.toInt_ofInt_of_le (by omega) (by omega)]
theorem i16_of {n : Int} (h1 : -32768 ≤ n) (h2 : n ≤ 32767) : (Int16.ofInt n).toInt32 = Int32.ofInt n := by
  apply Int32.toInt_inj.mp
  rw [Int16.toInt_toInt32, Int16.toInt_ofInt_of_le (by omega) (by omega), Int32.toInt_ofInt_of_le (by omega) (by omega)]
section PS
variable {p : Program} {l : Launch} {e : Env} {R : Room} {s : State} {m : MethodId} {args : Array Value} {below : List Frame} {meth : Method} {c : Code} {D : va_G} {s0 : S0} {nL mc ms : Nat} {Z : State → Prop} {cc : ByteArray} {pc : Nat} {L L' : List (Nat × SV)} {st st' : List SV} {h : AH}
theorem ps_psI (hx : p.tables.exec = Jvm.exec) (hb : c.code = cc) {n len : Nat} (hp : psI L st n = some (L', st')) (row : ∀ {H : Heap} {locs : List Loc} {ls : Array Slot} {x : Int32}, ls[n]? = some (.val (.int x)) → W p l e R s m args below meth c H locs (mc - h.rc) (ms - h.rs) Z (F0 m (pc + len) ls (.int x :: st.map tV)) → W p l e R s m args below meth c H locs (mc - h.rc) (ms - h.rs) Z (F0 m pc ls (st.map tV)))
    (k : KK p l e R s m args below meth c D s0 nL mc ms Z (pc + len) L' st' h) : KK p l e R s m args below meth c D s0 nL mc ms Z pc L st h := by
  unfold psI at hp
  split at hp
  · rename_i x hx2
    cases hp
    intro H locs ls hl hR hlo hS h1 h2
    exact row (lk_at hl hx2) (k H locs ls hl hR hlo hS h1 h2)
  · cases hp
theorem ps_psJ (hx : p.tables.exec = Jvm.exec) (hb : c.code = cc) {n len : Nat} (hp : psJ L st n = some (L', st')) (row : ∀ {H : Heap} {locs : List Loc} {ls : Array Slot} {x : Int64}, ls[n]? = some (.val (.long x)) → W p l e R s m args below meth c H locs (mc - h.rc) (ms - h.rs) Z (F0 m (pc + len) ls (.long x :: st.map tV)) → W p l e R s m args below meth c H locs (mc - h.rc) (ms - h.rs) Z (F0 m pc ls (st.map tV)))
    (k : KK p l e R s m args below meth c D s0 nL mc ms Z (pc + len) L' st' h) : KK p l e R s m args below meth c D s0 nL mc ms Z pc L st h := by
  unfold psJ at hp
  split at hp
  · rename_i x hx2
    cases hp
    intro H locs ls hl hR hlo hS h1 h2
    exact row (lk_at hl hx2) (k H locs ls hl hR hlo hS h1 h2)
  · cases hp
theorem ps_psA (hx : p.tables.exec = Jvm.exec) (hb : c.code = cc) {n len : Nat} (hp : psA L st n = some (L', st')) (row : ∀ {H : Heap} {locs : List Loc} {ls : Array Slot} {x : Option Nat}, ls[n]? = some (.val (va_rf x)) → W p l e R s m args below meth c H locs (mc - h.rc) (ms - h.rs) Z (F0 m (pc + len) ls (va_rf x :: st.map tV)) → W p l e R s m args below meth c H locs (mc - h.rc) (ms - h.rs) Z (F0 m pc ls (st.map tV)))
    (k : KK p l e R s m args below meth c D s0 nL mc ms Z (pc + len) L' st' h) : KK p l e R s m args below meth c D s0 nL mc ms Z pc L st h := by
  unfold psA at hp
  split at hp
  · rename_i x hx2
    cases hp
    intro H locs ls hl hR hlo hS h1 h2
    exact row (lk_at hl hx2) (k H locs ls hl hR hlo hS h1 h2)
  · cases hp
theorem ps_psB {f : Int32 → Int32 → Int32} (hp : psB f L st = some (L', st')) {len : Nat} (row : ∀ {H : Heap} {locs : List Loc} {ls : Array Slot} {x y : Int32} {r : List Value}, W p l e R s m args below meth c H locs (mc - h.rc) (ms - h.rs) Z (F0 m (pc + len) ls (.int (f x y) :: r)) → W p l e R s m args below meth c H locs (mc - h.rc) (ms - h.rs) Z (F0 m pc ls (.int y :: .int x :: r)))
    (k : KK p l e R s m args below meth c D s0 nL mc ms Z (pc + len) L' st' h) : KK p l e R s m args below meth c D s0 nL mc ms Z pc L st h := by
  unfold psB at hp
  split at hp
  · cases hp
    intro H locs ls hl hR hlo hS h1 h2
    exact row (k H locs ls hl hR hlo hS h1 h2)
  · cases hp
theorem ps_psN {f : Int32 → Int32} (hp : psN f L st = some (L', st')) {len : Nat} (row : ∀ {H : Heap} {locs : List Loc} {ls : Array Slot} {x : Int32} {r : List Value}, W p l e R s m args below meth c H locs (mc - h.rc) (ms - h.rs) Z (F0 m (pc + len) ls (.int (f x) :: r)) → W p l e R s m args below meth c H locs (mc - h.rc) (ms - h.rs) Z (F0 m pc ls (.int x :: r)))
    (k : KK p l e R s m args below meth c D s0 nL mc ms Z (pc + len) L' st' h) : KK p l e R s m args below meth c D s0 nL mc ms Z pc L st h := by
  unfold psN at hp
  split at hp
  · cases hp
    intro H locs ls hl hR hlo hS h1 h2
    exact row (k H locs ls hl hR hlo hS h1 h2)
  · cases hp
theorem ps_psC {f : Int64 → Int64 → Int64} (hp : psC f L st = some (L', st')) {len : Nat} (row : ∀ {H : Heap} {locs : List Loc} {ls : Array Slot} {x y : Int64} {r : List Value}, W p l e R s m args below meth c H locs (mc - h.rc) (ms - h.rs) Z (F0 m (pc + len) ls (.long (f x y) :: r)) → W p l e R s m args below meth c H locs (mc - h.rc) (ms - h.rs) Z (F0 m pc ls (.long y :: .long x :: r)))
    (k : KK p l e R s m args below meth c D s0 nL mc ms Z (pc + len) L' st' h) : KK p l e R s m args below meth c D s0 nL mc ms Z pc L st h := by
  unfold psC at hp
  split at hp
  · cases hp
    intro H locs ls hl hR hlo hS h1 h2
    exact row (k H locs ls hl hR hlo hS h1 h2)
  · cases hp
theorem blt_lt {a b : Nat} (h : Nat.blt a b = true) : a < b := by simpa [Nat.blt_eq] using h
theorem ps_psS {n len : Nat} {v : SV} (hv : wd v = 1) (hp : (bif Nat.blt n nL then some ((n, v) :: rm1 n L, st) else none) = some (L', st')) (row : ∀ {H : Heap} {locs : List Loc} {ls : Array Slot}, lv_has ls nL (L.map tL) → n < nL → (∀ ls', lv_has ls' nL ((n, tV v) :: (rm1 n L).map tL) → W p l e R s m args below meth c H locs (mc - h.rc) (ms - h.rs) Z (F0 m (pc + len) ls' (st.map tV))) → W p l e R s m args below meth c H locs (mc - h.rc) (ms - h.rs) Z (F0 m pc ls (tV v :: st.map tV)))
    (k : KK p l e R s m args below meth c D s0 nL mc ms Z (pc + len) L' st' h) : KK p l e R s m args below meth c D s0 nL mc ms Z pc L (v :: st) h := by
  cases hb : Nat.blt n nL with
  | false => rw [hb] at hp; cases hp
  | true =>
    rw [hb] at hp
    cases hp
    intro H locs ls hl hR hlo hS h1 h2
    exact row hl (blt_lt hb) (fun ls' hl' => k H locs ls' hl' hR hlo hS h1 h2)
end PS
section PS2
variable {p : Program} {l : Launch} {e : Env} {R : Room} {s : State} {m : MethodId} {args : Array Value} {below : List Frame} {meth : Method} {c : Code} {D : va_G} {s0 : S0} {nL mc ms : Nat} {Z : State → Prop} {cc : ByteArray} {pc : Nat} {L L' : List (Nat × SV)} {st st' : List SV} {h : AH}
theorem lv_aloadQ_n (hexec : p.tables.exec = Jvm.exec) (hb : c.code = cc) {H : Heap} {locs : List Loc} {cells slots : Nat} {ls : Array Slot} {rest : List Value} {k : Fin 4} {x : Option Nat} (hdg : decode cc pc = .ok (.aload_n k, 1)) (hl : ls[(k : Nat)]? = some (.val (va_rf x)))
    (kk : W p l e R s m args below meth c H locs cells slots Z (F0 m (pc + 1) ls (va_rf x :: rest))) : W p l e R s m args below meth c H locs cells slots Z (F0 m pc ls rest) := by
  cases x with
  | none => exact lv_aload_nN hexec hb hdg rfl hl kk
  | some a => exact lv_aload_n hexec hb hdg rfl hl kk
theorem lv_aloadQ (hexec : p.tables.exec = Jvm.exec) (hb : c.code = cc) {H : Heap} {locs : List Loc} {cells slots : Nat} {ls : Array Slot} {rest : List Value} {i : Nat} {x : Option Nat} (hdg : decode cc pc = .ok (.aload i, 2)) (hl : ls[i]? = some (.val (va_rf x)))
    (kk : W p l e R s m args below meth c H locs cells slots Z (F0 m (pc + 2) ls (va_rf x :: rest))) : W p l e R s m args below meth c H locs cells slots Z (F0 m pc ls rest) := by
  cases x with
  | none => exact lv_aloadN hexec hb hdg hl kk
  | some a => exact lv_aload hexec hb hdg hl kk
theorem lv_astoreQ_n (hexec : p.tables.exec = Jvm.exec) (hb : c.code = cc) {H : Heap} {locs : List Loc} {cells slots : Nat} {ls : Array Slot} {rest : List Value} {k : Fin 4} {x : Option Nat} {lv : List (Nat × Value)} (hdg : decode cc pc = .ok (.astore_n k, 1)) (hl : lv_has ls nL lv) (hn : (k : Nat) < nL)
    (kk : ∀ ls', lv_has ls' nL (((k : Nat), va_rf x) :: lv.filter (fun q => !(q.1 == (k : Nat)) && !(q.1 + 1 == (k : Nat) && q.2.category == 2))) → W p l e R s m args below meth c H locs cells slots Z (F0 m (pc + 1) ls' rest)) : W p l e R s m args below meth c H locs cells slots Z (F0 m pc ls (va_rf x :: rest)) := by
  cases x with
  | none => exact lv_astore_nN hexec hb hdg rfl hl hn rfl kk
  | some a => exact lv_astore_n hexec hb hdg rfl hl hn rfl kk
theorem lv_astoreQ (hexec : p.tables.exec = Jvm.exec) (hb : c.code = cc) {H : Heap} {locs : List Loc} {cells slots : Nat} {ls : Array Slot} {rest : List Value} {i : Nat} {x : Option Nat} {lv : List (Nat × Value)} (hdg : decode cc pc = .ok (.astore i, 2)) (hl : lv_has ls nL lv) (hn : i < nL)
    (kk : ∀ ls', lv_has ls' nL ((i, va_rf x) :: lv.filter (fun q => !(q.1 == i) && !(q.1 + 1 == i && q.2.category == 2))) → W p l e R s m args below meth c H locs cells slots Z (F0 m (pc + 2) ls' rest)) : W p l e R s m args below meth c H locs cells slots Z (F0 m pc ls (va_rf x :: rest)) := by
  cases x with
  | none => exact lv_astoreN hexec hb hdg hl hn rfl kk
  | some a => exact lv_astore hexec hb hdg hl hn rfl kk
set_option maxHeartbeats 4000000 in
theorem ps_ok (hx : p.tables.exec = Jvm.exec) (hb : c.code = cc) {i : Instr} {len : Nat} (d : decode cc pc = .ok (i, len)) (hln : ln i = len) (hp : ps nL i L st = some (L', st'))
    (k : KK p l e R s m args below meth c D s0 nL mc ms Z (pc + len) L' st' h) : KK p l e R s m args below meth c D s0 nL mc ms Z pc L st h := by
  subst hln
  unfold ps at hp
  split at hp
  · cases hp
    intro H locs ls hl hR hlo hS h1 h2
    exact lv_iconst hx hb d rfl (k H locs ls hl hR hlo hS h1 h2)
  · rename_i n
    cases hc : (decide (-128 ≤ n) && decide (n ≤ 127)) with
    | false => rw [hc] at hp; cases hp
    | true =>
      rw [hc] at hp
      cases hp
      simp only [Bool.and_eq_true, decide_eq_true_eq] at hc
      intro H locs ls hl hR hlo hS h1 h2
      exact lv_bipush hx hb d (i8_of hc.1 hc.2) (k H locs ls hl hR hlo hS h1 h2)
  · rename_i n
    cases hc : (decide (-32768 ≤ n) && decide (n ≤ 32767)) with
    | false => rw [hc] at hp; cases hp
    | true =>
      rw [hc] at hp
      cases hp
      simp only [Bool.and_eq_true, decide_eq_true_eq] at hc
      intro H locs ls hl hR hlo hS h1 h2
      exact lv_sipush hx hb d (i16_of hc.1 hc.2) (k H locs ls hl hR hlo hS h1 h2)
  · cases hp
    intro H locs ls hl hR hlo hS h1 h2
    exact lv_lconst hx hb d rfl (k H locs ls hl hR hlo hS h1 h2)
  · cases hp
    intro H locs ls hl hR hlo hS h1 h2
    exact lv_null hx hb d (k H locs ls hl hR hlo hS h1 h2)
  · exact ps_psI hx hb hp (fun h1 h2 => lv_iload_n hx hb d rfl h1 h2) k
  · exact ps_psI hx hb hp (fun h1 h2 => lv_iload hx hb d h1 h2) k
  · exact ps_psJ hx hb hp (fun h1 h2 => lv_lload_n hx hb d rfl h1 h2) k
  · exact ps_psJ hx hb hp (fun h1 h2 => lv_lload hx hb d h1 h2) k
  · exact ps_psA hx hb hp (fun h1 h2 => lv_aloadQ_n hx hb d h1 h2) k
  · exact ps_psA hx hb hp (fun h1 h2 => lv_aloadQ hx hb d h1 h2) k
  · split at hp
    · exact ps_psS rfl hp (fun h1 h2 h3 => lv_istore_n hx hb d rfl h1 h2 (by rw [rm1_map]; rfl) h3) k
    · cases hp
  · split at hp
    · exact ps_psS rfl hp (fun h1 h2 h3 => lv_istore hx hb d h1 h2 (by rw [rm1_map]; rfl) h3) k
    · cases hp
  · split at hp
    · rename_i kk _ x _
      cases hbl : Nat.blt (kk.val + 1) nL with
      | false => rw [hbl] at hp; cases hp
      | true =>
        rw [hbl] at hp
        cases hp
        intro H locs ls hl hR hlo hS h1 h2
        exact lv_lstore_n hx hb d rfl hl (blt_lt hbl) (by rw [rm2_map]; rfl) (fun ls' hl' => k H locs ls' hl' hR hlo hS h1 h2)
    · cases hp
  · split at hp
    · rename_i kk _ x _
      cases hbl : Nat.blt (kk + 1) nL with
      | false => rw [hbl] at hp; cases hp
      | true =>
        rw [hbl] at hp
        cases hp
        intro H locs ls hl hR hlo hS h1 h2
        exact lv_lstore hx hb d hl (blt_lt hbl) (by rw [rm2_map]; rfl) (fun ls' hl' => k H locs ls' hl' hR hlo hS h1 h2)
    · cases hp
  · split at hp
    · exact ps_psS rfl hp (fun h1 h2 h3 => lv_astoreQ_n hx hb d h1 h2 (fun ls' hl' => h3 ls' (by rw [rm1_map] at hl'; exact hl'))) k
    · cases hp
  · split at hp
    · exact ps_psS rfl hp (fun h1 h2 h3 => lv_astoreQ hx hb d h1 h2 (fun ls' hl' => h3 ls' (by rw [rm1_map] at hl'; exact hl'))) k
    · cases hp
  · split at hp
    · rename_i kk n _ x hlk
      cases hbl : Nat.blt kk nL with
      | false => rw [hbl] at hp; cases hp
      | true =>
        rw [hbl] at hp
        cases hp
        intro H locs ls hl hR hlo hS h1 h2
        obtain ⟨j, hj⟩ := List.getElem?_of_mem (List.mem_map.mpr ⟨(kk, vI x), lk_mem hlk, rfl⟩ : tL (kk, vI x) ∈ L.map tL)
        exact lv_iinc hx hb d hl hj rfl (blt_lt hbl) (by rw [rm1_map]; rfl) (fun ls' hl' => k H locs ls' hl' hR hlo hS h1 h2)
    · cases hp
  · exact ps_psB hp (fun q => lv_iadd hx hb d q) k
  · exact ps_psB hp (fun q => lv_isub hx hb d q) k
  · exact ps_psB hp (fun q => lv_imul hx hb d q) k
  · exact ps_psB hp (fun q => lv_iand hx hb d q) k
  · exact ps_psB hp (fun q => lv_ior hx hb d q) k
  · exact ps_psB hp (fun q => lv_ixor hx hb d q) k
  · exact ps_psB hp (fun q => lv_ishl hx hb d q) k
  · exact ps_psB hp (fun q => lv_ishr hx hb d q) k
  · exact ps_psB hp (fun q => lv_iushr hx hb d rfl q) k
  · exact ps_psN hp (fun q => lv_ineg hx hb d q) k
  · exact ps_psN hp (fun q => lv_i2b hx hb d rfl q) k
  · exact ps_psN hp (fun q => lv_i2c hx hb d rfl q) k
  · split at hp
    · rename_i y x _
      cases hc : decide (y = 0) with
      | true => rw [hc] at hp; cases hp
      | false =>
        rw [hc] at hp
        cases hp
        intro H locs ls hl hR hlo hS h1 h2
        exact lv_idiv hx hb d (of_decide_eq_false hc) (k H locs ls hl hR hlo hS h1 h2)
    · cases hp
  · split at hp
    · rename_i y x _
      cases hc : decide (y = 0) with
      | true => rw [hc] at hp; cases hp
      | false =>
        rw [hc] at hp
        cases hp
        intro H locs ls hl hR hlo hS h1 h2
        exact lv_irem hx hb d (of_decide_eq_false hc) (k H locs ls hl hR hlo hS h1 h2)
    · cases hp
  · exact ps_psC hp (fun q => lv_ladd hx hb d q) k
  · exact ps_psC hp (fun q => lv_lsub hx hb d q) k
  · exact ps_psC hp (fun q => lv_lmul hx hb d q) k
  · split at hp
    · cases hp
      intro H locs ls hl hR hlo hS h1 h2
      exact lv_i2l hx hb d rfl (k H locs ls hl hR hlo hS h1 h2)
    · cases hp
  · split at hp
    · cases hp
      intro H locs ls hl hR hlo hS h1 h2
      exact W.lcmp hx hb d (k H locs ls hl hR hlo hS h1 h2)
    · cases hp
  · split at hp
    · rename_i v _
      cases hc : Nat.beq (wd v) 1 with
      | false => rw [hc] at hp; cases hp
      | true =>
        rw [hc] at hp
        cases hp
        intro H locs ls hl hR hlo hS h1 h2
        exact lv_dup hx hb d (by rw [tV_cat]; exact Nat.eq_of_beq_eq_true hc) (k H locs ls hl hR hlo hS h1 h2)
    · cases hp
  · split at hp
    · rename_i v _
      cases hc : Nat.beq (wd v) 1 with
      | false => rw [hc] at hp; cases hp
      | true =>
        rw [hc] at hp
        cases hp
        intro H locs ls hl hR hlo hS h1 h2
        exact lv_pop hx hb d (by rw [tV_cat]; exact Nat.eq_of_beq_eq_true hc) (k H locs ls hl hR hlo hS h1 h2)
    · cases hp
  · split at hp
    · rename_i v u _
      cases hc : (Nat.beq (wd v) 1 && Nat.beq (wd u) 1) with
      | false => rw [hc] at hp; cases hp
      | true =>
        rw [hc] at hp
        cases hp
        rw [Bool.and_eq_true] at hc
        intro H locs ls hl hR hlo hS h1 h2
        exact lv_dup_x1 hx hb d (by rw [tV_cat]; exact Nat.eq_of_beq_eq_true hc.1) (by rw [tV_cat]; exact Nat.eq_of_beq_eq_true hc.2) (k H locs ls hl hR hlo hS h1 h2)
    · cases hp
  · split at hp
    · rename_i v u _
      cases hc : (Nat.beq (wd v) 1 && Nat.beq (wd u) 1) with
      | false => rw [hc] at hp; cases hp
      | true =>
        rw [hc] at hp
        cases hp
        rw [Bool.and_eq_true] at hc
        intro H locs ls hl hR hlo hS h1 h2
        exact lv_dup2_11 hx hb d (by rw [tV_cat]; exact Nat.eq_of_beq_eq_true hc.1) (by rw [tV_cat]; exact Nat.eq_of_beq_eq_true hc.2) (k H locs ls hl hR hlo hS h1 h2)
    · cases hp
  · cases hp
theorem psL_ok (hx : p.tables.exec = Jvm.exec) (hb : c.code = cc) : ∀ (ins : List (Instr × Nat)) {pc pc' : Nat} {L : List (Nat × SV)} {st : List SV}, Decs cc pc ins pc' → psL nL ins L st = some (L', st') →
    KK p l e R s m args below meth c D s0 nL mc ms Z pc' L' st' h → KK p l e R s m args below meth c D s0 nL mc ms Z pc L st h
  | [], pc, pc', L, st, hd, hp, k => by
    cases hp
    have e1 : pc = pc' := hd
    rw [e1]; exact k
  | q :: r, pc, pc', L, st, hd, hp, k => by
    unfold psL at hp
    cases hl : Nat.beq (ln q.1) q.2 with
    | false => rw [hl] at hp; cases hp
    | true =>
      rw [hl] at hp
      dsimp only [cond] at hp
      split at hp
      · rename_i x hx2
        exact ps_ok hx hb hd.1 (Nat.eq_of_beq_eq_true hl) hx2 (psL_ok hx hb r hd.2 hp k)
      · cases hp
end PS2
section ROWS
variable {l : Launch} {D : va_G} {s0 : S0} {cc : ByteArray} {own mn : String} {nL fr lw mc ms : Nat} {ret : Option FieldType} {Q : Option SV → AH → Prop} {K : KT}
/-- a run of plain instructions -/
theorem x_b (C : Cx l D s0 cc own mn nL fr lw mc ms ret Q K) {pc pc' : Nat} {L L' : List (Nat × SV)} {st st' : List SV} {h : AH} (ins : List (Instr × Nat)) (hd : Decs cc pc ins pc') (hp : psL nL ins L st = some (L', st')) (k : K pc' L' st' h) : K pc L st h := by
  obtain ⟨p, e, R, s, m, args, below, meth, c, Z, hx, hb, hml, ho, hts, hds, hG, hR, hr, hz, rfl⟩ := C
  exact psL_ok hx hb ins hd hp k
end ROWS
theorem CL_AR {t : Nat} {i : String × u_T × Nat × (Nat → FieldType)} (h : CL t = some i) : AR t = none := by
  unfold CL at h
  split at h <;> first | rfl | cases h
theorem AR_CL {t : Nat} {ty : FieldType} (h : AR t = some ty) : CL t = none := by
  unfold AR at h
  split at h <;> first | rfl | cases h
theorem AR_0 {t : Nat} {ty : FieldType} (h : AR t = some ty) : t ≠ 0 := by
  intro h0; rw [h0] at h; cases h
theorem CL_0 {t : Nat} {i : String × u_T × Nat × (Nat → FieldType)} (h : CL t = some i) : t ≠ 0 := by
  intro h0; rw [h0] at h; cases h
/-- only what lies at a is another one -/
def Ch (h h' : AH) (a : Nat) : Prop := h'.kd = h.kd ∧ h'.sz = h.sz ∧ h'.bs = h.bs ∧ h'.rc = h.rc ∧ h'.rs = h.rs ∧ (∀ (ty : FieldType) (F b : Nat), b ≠ a → fval ty h' F b = fval ty h F b) ∧ (∀ (ty : FieldType) (b : Nat), b ≠ a → acont ty h' b = acont ty h b)
theorem up2_ne {α : Type} {f : Nat → Nat → α} {x y : Nat} {v : α} {a b : Nat} (h : b ≠ y) : up2 f x y v a b = f a b := if_neg (fun q => h q.2)
theorem up2_nx {α : Type} {f : Nat → Nat → α} {x y : Nat} {v : α} {a b : Nat} (h : a ≠ x) : up2 f x y v a b = f a b := if_neg (fun q => h q.1)
theorem up2_eq {α : Type} {f : Nat → Nat → α} {x y : Nat} {v : α} : up2 f x y v x y = v := if_pos ⟨rfl, rfl⟩
theorem up2_fun {α : Type} {f : Nat → Nat → α} {x y : Nat} {v : α} {a : Nat} (h : a ≠ x) : up2 f x y v a = f a := funext fun _ => up2_nx h
theorem Ch.sfi {h : AH} {F a : Nat} {v : Int32} : Ch h (h.sfi F a v) a := by
  refine ⟨rfl, rfl, rfl, rfl, rfl, fun ty G b hb => ?_, fun ty b hb => rfl⟩
  cases ty <;> first | rfl | exact congrArg vI (up2_ne hb)
theorem Ch.sfl {h : AH} {F a : Nat} {v : Int64} : Ch h (h.sfl F a v) a := by
  refine ⟨rfl, rfl, rfl, rfl, rfl, fun ty G b hb => ?_, fun ty b hb => rfl⟩
  cases ty <;> first | rfl | exact congrArg vJ (up2_ne hb)
theorem Ch.sfr {h : AH} {F a : Nat} {v : Option Nat} : Ch h (h.sfr F a v) a := by
  refine ⟨rfl, rfl, rfl, rfl, rfl, fun ty G b hb => ?_, fun ty b hb => rfl⟩
  cases ty <;> first | rfl | exact congrArg vA (up2_ne hb)
theorem Ch.sai {h : AH} {i a : Nat} {v : Int32} : Ch h (h.sai a i v) a := by
  refine ⟨rfl, rfl, rfl, rfl, rfl, fun ty G b hb => rfl, fun ty b hb => ?_⟩
  cases ty <;> first | rfl | exact congrArg (fun f => ((h.kd b).2, Sum.inl f)) (up2_fun hb)
theorem Ch.sal {h : AH} {i a : Nat} {v : Int64} : Ch h (h.sal a i v) a := by
  refine ⟨rfl, rfl, rfl, rfl, rfl, fun ty G b hb => rfl, fun ty b hb => ?_⟩
  cases ty <;> first | rfl | exact congrArg (fun f => ((h.kd b).2, Sum.inr (Sum.inl f))) (up2_fun hb)
theorem Ch.sar {h : AH} {i a : Nat} {v : Option Nat} : Ch h (h.sar a i v) a := by
  refine ⟨rfl, rfl, rfl, rfl, rfl, fun ty G b hb => rfl, fun ty b hb => ?_⟩
  cases ty <;> first | rfl | exact congrArg (fun f => ((h.kd b).2, Sum.inr (Sum.inr (Sum.inr (Sum.inr f))))) (up2_fun hb)
theorem Rp.ch {D : va_G} {H H1 : Heap} {h h' : AH} {a : Nat} (hR : Rp D H h) (hC : Ch h h' a) (e2 : H1.size = H.size) (e3 : ∀ q : Nat, q ≠ a → H1[q]? = H[q]?) (hc : cok D H1 h' a) : Rp D H1 h' := by
  obtain ⟨k1, k2, k3, -, -, k4, k5⟩ := hC
  obtain ⟨r1, ⟨r2, r2b, r2c⟩, r3, r4⟩ := hR
  refine ⟨by rw [e2, r1, k2], ⟨fun b hb => by rw [k1]; rw [k2] at hb; exact r2 b hb, fun b hb => by show h'.bs.2 _ = 0; rw [k3]; rw [k1] at hb; exact r2b b hb, fun b hb => by show h'.bs.2 _ = 0; rw [k3]; rw [k2] at hb; exact r2c b hb⟩, fun b hb => by show h'.bs.1 ≤ b; rw [k3]; rw [k1] at hb; exact r3 b hb, fun b => ?_⟩
  by_cases hb : b = a
  · rw [hb]; exact hc
  · obtain ⟨c1, c2⟩ := r4 b
    have k3' : h'.lo = h.lo := congrArg Prod.fst k3
    refine ⟨fun i hi => ?_, fun ty hty => ?_⟩
    · rw [k1] at hi ⊢
      rw [k3']
      exact ((c1 i hi).kept (e3 b hb)).to (fun j _ => by rw [k4 _ _ b hb])
    · rw [k1] at hty ⊢
      rw [k3', k5 ty b hb]
      exact (c2 ty hty).kept (e3 b hb)
theorem Rp.arr {D : va_G} {H : Heap} {h : AH} {a : Nat} {ty : FieldType} (hR : Rp D H h) (hA : AR (h.kd a).1 = some ty) (hr : ROk (h.kd a).1 = false) : H[a]? = some (vp_cell (D.1 (h.kd a).1) (acont ty h a)) :=
  ((hR.2.2.2 a).2 _ hA).get (hR.2.2.1 a hr)
theorem Rp.lt {D : va_G} {H : Heap} {h : AH} {a : Nat} (hR : Rp D H h) (ha : (h.kd a).1 ≠ 0) : a < h.sz := by
  rcases Nat.lt_or_ge a h.sz with q | q
  · exact q
  · exact absurd (hR.2.1.1 a q) ha
section ROWS2
variable {l : Launch} {D : va_G} {s0 : S0} {cc : ByteArray} {own mn : String} {nL fr lw mc ms : Nat} {ret : Option FieldType} {Q : Option SV → AH → Prop} {K : KT}
variable {pc : Nat} {L : List (Nat × SV)} {st : List SV} {h : AH}
/-- getfield -/
theorem x_get (C : Cx l D s0 cc own mn nL fr lw mc ms ret Q K) (t k : Nat) {index pc' : Nat} {i : String × u_T × Nat × (Nat → FieldType)} {v : SV} {r : Option Nat} (d : decode cc pc = .ok (.getfield index, 3)) (hpc : pc + 3 = pc') (hc : CL t = some i) (hk : Nat.blt k i.2.2.1 = true) (hlink : Cond.fieldLink own index (i.2.1 k).1 (i.2.1 k).2.1 (i.2.1 k).2.2.1 ∈ lw_all)
    (hv : fval (i.2.2.2 k) h (100 * t + k) (adr r) = v) (hn : nn h r t) (kk : K pc' L (v :: st) h) : K pc L (vA r :: st) h := by
  obtain ⟨p, e, R, s, m, args, below, meth, c, Z, hx, hb, hml, ho, hts, hds, hG, hRm, hr, hz, rfl⟩ := C
  subst hpc; subst hv
  obtain ⟨a, rfl, hkd⟩ := hn
  intro H locs ls hl hR hlo hS h1 h2
  have hk := blt_lt hk
  subst hkd
  obtain ⟨cell, q1, q2, q3, q4⟩ := (hR.2.2.2 a).1 i hc
  obtain ⟨hSl, hfc, kC, hkC, hkind⟩ := hds.kn hG hc
  obtain ⟨cf, kf, fi, f, hi, hsl⟩ := hSl k hk
  refine W.getf hx hb ho (hts _ hlink) hi (u_facts hfc hkC (u_lays hts (CL_ok _ i hc).1 hk) hi).1 q1 q3.1 (v := tV (fval (i.2.2.2 k) h (100 * (h.kd a).1 + k) a)) ?_ rfl rfl d (kk H locs ls hl hR hlo hS h1 h2)
  rw [hsl]; exact q4 k hk
/-- getfield of a nest mate's private field -/
theorem x_getN (C : Cx l D s0 cc own mn nL fr lw mc ms ret Q K) (t k : Nat) {index pc' : Nat} {host : String} {i : String × u_T × Nat × (Nat → FieldType)} {v : SV} {r : Option Nat} (d : decode cc pc = .ok (.getfield index, 3)) (hpc : pc + 3 = pc') (hc : CL t = some i) (hk : Nat.blt k i.2.2.1 = true) (hlink : Cond.fieldLinkNest own index (i.2.1 k).1 (i.2.1 k).2.1 (i.2.1 k).2.2.1 host ∈ lw_tbl)
    (hv : fval (i.2.2.2 k) h (100 * t + k) (adr r) = v) (hn : nn h r t) (kk : K pc' L (v :: st) h) : K pc L (vA r :: st) h := by
  obtain ⟨p, e, R, s, m, args, below, meth, c, Z, hx, hb, hml, ho, hts, hds, hG, hRm, hr, hz, rfl⟩ := C
  subst hpc; subst hv
  obtain ⟨a, rfl, hkd⟩ := hn
  intro H locs ls hl hR hlo hS h1 h2
  have hk := blt_lt hk
  subst hkd
  obtain ⟨cell, q1, q2, q3, q4⟩ := (hR.2.2.2 a).1 i hc
  obtain ⟨hSl, hfc, kC, hkC, hkind⟩ := hds.kn hG hc
  obtain ⟨cf, kf, fi, f, hi, hsl⟩ := hSl k hk
  obtain ⟨b0, hw0, -⟩ := hG.1
  refine va_Wgetf hx hb ho (va_Nw.use rfl (va_Nw.warmF hds.1 (va_Nw.of rfl (hw0 _ hlink)))) hi (u_facts hfc hkC (u_lays hts (CL_ok _ i hc).1 hk) hi).1 q1 q3.1 (v := tV (fval (i.2.2.2 k) h (100 * (h.kd a).1 + k) a)) ?_ rfl rfl d (kk H locs ls hl hR hlo hS h1 h2)
  rw [hsl]; exact q4 k hk
theorem cok_put {D : va_G} {H1 : Heap} {h h' : AH} {a k : Nat} {i : String × u_T × Nat × (Nat → FieldType)} {cell : Cell} {v : SV} (hc : CL (h.kd a).1 = some i) (hk : k < i.2.2.1) (hap : ∀ x y, x < i.2.2.1 → y < i.2.2.1 → x ≠ y → D.2 (h.kd a).1 x ≠ D.2 (h.kd a).1 y) (hkd : h'.kd = h.kd)
    (q2 : cell.cls = D.1 (h.kd a).1) (q3 : cell.vm = .none) (q4 : ∀ j, j < i.2.2.1 → cell.slots[D.2 (h.kd a).1 j]? = some (tV (fval (i.2.2.2 j) h (100 * (h.kd a).1 + j) a))) (e1 : H1[a]? = some (cell.setSlot (D.2 (h.kd a).1 k) (tV v)))
    (ho : ∀ j, j ≠ k → fval (i.2.2.2 j) h' (100 * (h.kd a).1 + j) a = fval (i.2.2.2 j) h (100 * (h.kd a).1 + j) a) (hv : fval (i.2.2.2 k) h' (100 * (h.kd a).1 + k) a = v) : cok D H1 h' a := by
  refine ⟨fun i' hi' => ?_, fun ty hty => ?_⟩
  · rw [hkd] at hi' ⊢
    cases hc.symm.trans hi'
    refine tO.of (t_OB.to (V := updV (fun j => tV (fval (i.2.2.2 j) h (100 * (h.kd a).1 + j) a)) k (tV v)) ⟨_, e1, q2, q3, t_set q4 hap hk (tV v)⟩ (fun j hj => ?_))
    by_cases hjk : j = k
    · subst hjk
      rw [hv]; exact if_pos rfl
    · rw [ho j hjk]; exact if_neg hjk
  · rw [hkd] at hty
    rw [CL_AR hc] at hty; cases hty
theorem x_apart {s : State} {args : Array Value} (hts : ∀ w ∈ lw_all, w.before args s = true) (hds : DS s0 s) (hG : G0 D s0) {t : Nat} {i : String × u_T × Nat × (Nat → FieldType)} (hc : CL t = some i) : ∀ x y, x < i.2.2.1 → y < i.2.2.1 → x ≠ y → D.2 t x ≠ D.2 t y := by
  intro x y hx hy hne
  obtain ⟨hS, -⟩ := hds.kn hG hc
  obtain ⟨o1, o2, o3⟩ := CL_ok t i hc
  obtain ⟨_, _, _, fa, hia, ea⟩ := hS x hx
  obtain ⟨_, _, _, fb, hib, eb⟩ := hS y hy
  rw [← ea, ← eb]
  refine u_apart (u_lays hts o1 hx) (u_lays hts o1 hy) hia hib ?_
  rw [(State.fieldFound?_type hia (o2 x hx)).1, (State.fieldFound?_type hib (o2 y hy)).1]
  exact o3 x hx y hy hne
/-- what a putfield asks of the new heap -/
def Pt (h h' : AH) (a t k : Nat) (ty : Nat → FieldType) (v : SV) : Prop := Ch h h' a ∧ (∀ j, j ≠ k → fval (ty j) h' (100 * t + j) a = fval (ty j) h (100 * t + j) a) ∧ fval (ty k) h' (100 * t + k) a = v
/-- putfield (not final) -/
theorem x_putG (C : Cx l D s0 cc own mn nL fr lw mc ms ret Q K) (t k : Nat) {index pc' : Nat} {i : String × u_T × Nat × (Nat → FieldType)} {v : SV} {r : Option Nat} {h' : AH} (d : decode cc pc = .ok (.putfield index, 3)) (hpc : pc + 3 = pc') (hc : CL t = some i) (hk : Nat.blt k i.2.2.1 = true) (hfin : (i.2.1 k).2.2.2 = false) (hlink : Cond.fieldLink own index (i.2.1 k).1 (i.2.1 k).2.1 (i.2.1 k).2.2.1 ∈ lw_all)
    (hP : Pt h h' (adr r) t k i.2.2.2 v) (hnr : narrow (i.2.2.2 k) (tV v) = tV v) (hfit : fits (i.2.2.2 k) (tV v) = true) (hn : nn h r t) (hro : ROk t = false ∨ h.lo ≤ adr r) (kk : K pc' L st h') : K pc L (v :: vA r :: st) h := by
  obtain ⟨p, e, R, s, m, args, below, meth, c, Z, hx, hb, hml, ho, hts, hds, hG, hRm, hr, hz, rfl⟩ := C
  subst hpc
  obtain ⟨a, rfl, hkd⟩ := hn
  intro H locs ls hl hR hlo hS h1 h2
  have hk := blt_lt hk
  subst hkd
  have hap := x_apart hts hds hG hc
  obtain ⟨cell, q1, q2, q3, q4⟩ := (hR.2.2.2 a).1 i hc
  obtain ⟨hSl, hfc, kC, hkC, hkind⟩ := hds.kn hG hc
  obtain ⟨cf, kf, fi, f, hi, hsl⟩ := hSl k hk
  obtain ⟨o1, o2, o3⟩ := CL_ok _ i hc
  have hlay := hts _ (o1 _ (u_in_lay hk))
  unfold u_lay at hlay
  rw [if_neg (by rw [hfin]; decide)] at hlay
  have hst := (u_facts hfc hkC (u_lays hts o1 hk) hi).1
  have h6 := u_store hfc hkC hkind hlay hi (o2 k hk) hnr hfit
  have hloa : Lo s0 a := by
    refine hR.free hlo ?_ ?_
    · first | exact CL_ne hc | exact AR_ne hA | exact AR_ne hA1
    · rcases hro with q | q
      · exact hR.2.2.1 a q
      · exact q
  obtain ⟨hC, hP1, hP2⟩ := hP
  replace q3 := q3.2.2 (by rw [lo_of hlo]; exact hloa.1)
  refine W.putK hx hb (f := f) ⟨ho, hts _ hlink, ⟨_, _, _, hi⟩, hst⟩ (by rw [q2]; exact h6) q1 q3 (by rw [hsl]; exact k2_hasslot (q4 k hk)) rfl rfl d fun H' e1 e2 e3 => ?_
  rw [hsl] at e1
  have kz := kk H' (locs ++ [⟨a, f.slot⟩]) ls hl (hR.ch hC e2 e3 (cok_put hc hk hap hC.1 q2 q3 q4 e1 hP1 hP2)) (by rw [hC.2.2.1]; exact hlo) (hS.put e2 e3 hloa) (by rw [hC.2.2.2.1]; exact h1) (by rw [hC.2.2.2.2.1]; exact h2)
  rw [hC.2.2.2.1, hC.2.2.2.2.1] at kz
  exact kz
/-- putfield of a nest mate's private field -/
theorem x_putN (C : Cx l D s0 cc own mn nL fr lw mc ms ret Q K) (t k : Nat) {index pc' : Nat} {host : String} {i : String × u_T × Nat × (Nat → FieldType)} {v : SV} {r : Option Nat} {h' : AH} (d : decode cc pc = .ok (.putfield index, 3)) (hpc : pc + 3 = pc') (hc : CL t = some i) (hk : Nat.blt k i.2.2.1 = true) (hfin : (i.2.1 k).2.2.2 = false) (hlink : Cond.fieldLinkNest own index (i.2.1 k).1 (i.2.1 k).2.1 (i.2.1 k).2.2.1 host ∈ lw_tbl)
    (hP : Pt h h' (adr r) t k i.2.2.2 v) (hnr : narrow (i.2.2.2 k) (tV v) = tV v) (hfit : fits (i.2.2.2 k) (tV v) = true) (hn : nn h r t) (hro : ROk t = false ∨ h.lo ≤ adr r) (kk : K pc' L st h') : K pc L (v :: vA r :: st) h := by
  obtain ⟨p, e, R, s, m, args, below, meth, c, Z, hx, hb, hml, ho, hts, hds, hG, hRm, hr, hz, rfl⟩ := C
  subst hpc
  obtain ⟨a, rfl, hkd⟩ := hn
  intro H locs ls hl hR hlo hS h1 h2
  have hk := blt_lt hk
  subst hkd
  have hap := x_apart hts hds hG hc
  obtain ⟨cell, q1, q2, q3, q4⟩ := (hR.2.2.2 a).1 i hc
  obtain ⟨hSl, hfc, kC, hkC, hkind⟩ := hds.kn hG hc
  obtain ⟨cf, kf, fi, f, hi, hsl⟩ := hSl k hk
  obtain ⟨o1, o2, o3⟩ := CL_ok _ i hc
  obtain ⟨b0, hw0, -⟩ := hG.1
  have hlay := hts _ (o1 _ (u_in_lay hk))
  unfold u_lay at hlay
  rw [if_neg (by rw [hfin]; decide)] at hlay
  have hst := (u_facts hfc hkC (u_lays hts o1 hk) hi).1
  have h6 := u_store hfc hkC hkind hlay hi (o2 k hk) hnr hfit
  have hloa : Lo s0 a := by
    refine hR.free hlo ?_ ?_
    · first | exact CL_ne hc | exact AR_ne hA | exact AR_ne hA1
    · rcases hro with q | q
      · exact hR.2.2.1 a q
      · exact q
  obtain ⟨hC, hP1, hP2⟩ := hP
  replace q3 := q3.2.2 (by rw [lo_of hlo]; exact hloa.1)
  refine va_WputK hx hb (f := f) ho (va_Nw.use rfl (va_Nw.warmF hds.1 (va_Nw.of rfl (hw0 _ hlink)))) hi hst (by rw [q2]; exact h6) q1 q3 (by rw [hsl]; exact k2_hasslot (q4 k hk)) rfl rfl d fun H' e1 e2 e3 => ?_
  rw [hsl] at e1
  have kz := kk H' (locs ++ [⟨a, f.slot⟩]) ls hl (hR.ch hC e2 e3 (cok_put hc hk hap hC.1 q2 q3 q4 e1 hP1 hP2)) (by rw [hC.2.2.1]; exact hlo) (hS.put e2 e3 hloa) (by rw [hC.2.2.2.1]; exact h1) (by rw [hC.2.2.2.2.1]; exact h2)
  rw [hC.2.2.2.1, hC.2.2.2.2.1] at kz
  exact kz
/-- putfield of a final field, in its class's own constructor -/
theorem x_putF (C : Cx l D s0 cc own mn nL fr lw mc ms ret Q K) (t k : Nat) {index pc' : Nat} {i : String × u_T × Nat × (Nat → FieldType)} {v : SV} {r : Option Nat} {h' : AH} (d : decode cc pc = .ok (.putfield index, 3)) (hpc : pc + 3 = pc') (hc : CL t = some i) (hk : Nat.blt k i.2.2.1 = true) (hfin : (i.2.1 k).2.2.2 = true) (hlink : Cond.fieldLink own index (i.2.1 k).1 (i.2.1 k).2.1 (i.2.1 k).2.2.1 ∈ lw_all) (hmn : mn = "<init>") (hdecl : (i.2.1 k).1 = own)
    (hP : Pt h h' (adr r) t k i.2.2.2 v) (hnr : narrow (i.2.2.2 k) (tV v) = tV v) (hfit : fits (i.2.2.2 k) (tV v) = true) (hn : nn h r t) (hro : ROk t = false ∨ h.lo ≤ adr r) (kk : K pc' L st h') : K pc L (v :: vA r :: st) h := by
  obtain ⟨p, e, R, s, m, args, below, meth, c, Z, hx, hb, hml, ho, hts, hds, hG, hRm, hr, hz, rfl⟩ := C
  subst hpc
  obtain ⟨a, rfl, hkd⟩ := hn
  intro H locs ls hl hR hlo hS h1 h2
  have hk := blt_lt hk
  subst hkd
  have hap := x_apart hts hds hG hc
  obtain ⟨cell, q1, q2, q3, q4⟩ := (hR.2.2.2 a).1 i hc
  obtain ⟨hSl, hfc, kC, hkC, hkind⟩ := hds.kn hG hc
  obtain ⟨cf, kf, fi, f, hi, hsl⟩ := hSl k hk
  obtain ⟨o1, o2, o3⟩ := CL_ok _ i hc
  have hlay := hts _ (o1 _ (u_in_lay hk))
  unfold u_lay at hlay
  rw [if_pos hfin] at hlay
  have hst := (u_facts hfc hkC (u_lays hts o1 hk) hi).1
  have hcf : m.cls = cf := by
    obtain ⟨_, _, c', _, _, _, -, -, hf', -, -, -, hown2, -⟩ := Cond.laysFinal_spec hlay
    have e1 : c' = cf := by have := hi.symm.trans hf'; simp at this; exact this.1.symm
    rw [hdecl] at hown2
    rw [← e1]; exact Option.some.inj (ho.symm.trans hown2)
  have h6 := u_fits hfc hkC hkind (Or.inr hlay) hi (o2 k hk) hnr hfit
  have hloa : Lo s0 a := by
    refine hR.free hlo ?_ ?_
    · first | exact CL_ne hc | exact AR_ne hA | exact AR_ne hA1
    · rcases hro with q | q
      · exact hR.2.2.1 a q
      · exact q
  obtain ⟨hC, hP1, hP2⟩ := hP
  replace q3 := q3.2.2 (by rw [lo_of hlo]; exact hloa.1)
  refine W.putFinK hx hb ho (hts _ hlink) hi hst hcf (hr.2.2.trans hmn) (by rw [q2]; exact h6) q1 q3 (by rw [hsl]; exact k2_hasslot (q4 k hk)) rfl rfl d fun H' e1 e2 e3 => ?_
  rw [hsl] at e1
  have kz := kk H' (locs ++ [⟨a, f.slot⟩]) ls hl (hR.ch hC e2 e3 (cok_put hc hk hap hC.1 q2 q3 q4 e1 hP1 hP2)) (by rw [hC.2.2.1]; exact hlo) (hS.put e2 e3 hloa) (by rw [hC.2.2.2.1]; exact h1) (by rw [hC.2.2.2.2.1]; exact h2)
  rw [hC.2.2.2.1, hC.2.2.2.2.1] at kz
  exact kz
theorem Pt.I {h : AH} {a t k : Nat} {ty : Nat → FieldType} {x : Int32} (hty : ∀ (h : AH) (F a : Nat), fval (ty k) h F a = vI (h.fi F a)) : Pt h (h.sfi (100 * t + k) a x) a t k ty (vI x) := by
  refine ⟨Ch.sfi, fun j hj => ?_, by rw [hty]; exact congrArg vI up2_eq⟩
  have hne : 100 * t + j ≠ 100 * t + k := fun q => hj (by omega)
  cases ty j <;> first | rfl | exact congrArg vI (up2_nx hne)
theorem Pt.J {h : AH} {a t k : Nat} {ty : Nat → FieldType} {x : Int64} (hty : ∀ (h : AH) (F a : Nat), fval (ty k) h F a = vJ (h.fl F a)) : Pt h (h.sfl (100 * t + k) a x) a t k ty (vJ x) := by
  refine ⟨Ch.sfl, fun j hj => ?_, by rw [hty]; exact congrArg vJ up2_eq⟩
  have hne : 100 * t + j ≠ 100 * t + k := fun q => hj (by omega)
  cases ty j <;> first | rfl | exact congrArg vJ (up2_nx hne)
theorem Pt.A {h : AH} {a t k : Nat} {ty : Nat → FieldType} {x : Option Nat} (hty : ∀ (h : AH) (F a : Nat), fval (ty k) h F a = vA (h.fr F a)) : Pt h (h.sfr (100 * t + k) a x) a t k ty (vA x) := by
  refine ⟨Ch.sfr, fun j hj => ?_, by rw [hty]; exact congrArg vA up2_eq⟩
  have hne : 100 * t + j ≠ 100 * t + k := fun q => hj (by omega)
  cases ty j <;> first | rfl | exact congrArg vA (up2_nx hne)
end ROWS2
section ROWS3
variable {l : Launch} {D : va_G} {s0 : S0} {cc : ByteArray} {own mn : String} {nL fr lw mc ms : Nat} {ret : Option FieldType} {Q : Option SV → AH → Prop} {K : KT}
variable {pc : Nat} {L : List (Nat × SV)} {st : List SV} {h : AH}
theorem x_icmp_eq (C : Cx l D s0 cc own mn nL fr lw mc ms ret Q K) {x y : Int32} {off : Int} (tgt nxt : Nat) (d : decode cc pc = .ok (.if_icmp .eq off, 3)) (ht : (pc : Int) + off = (tgt : Int)) (hn : pc + 3 = nxt) (kt : x = y → K tgt L st h) (kf : ¬ x = y → K nxt L st h) : K pc L (vI y :: vI x :: st) h := by
  obtain ⟨p, e, R, s, m, args, below, meth, c, Z, hx, hb, hml, ho, hts, hds, hG, hRm, hr, hz, rfl⟩ := C
  subst hn
  intro H locs ls hl hR hlo hS h1 h2
  exact lv_icmp_eq hx hb d ht (fun q => kt q H locs ls hl hR hlo hS h1 h2) (fun q => kf q H locs ls hl hR hlo hS h1 h2)
theorem x_icmp_ne (C : Cx l D s0 cc own mn nL fr lw mc ms ret Q K) {x y : Int32} {off : Int} (tgt nxt : Nat) (d : decode cc pc = .ok (.if_icmp .ne off, 3)) (ht : (pc : Int) + off = (tgt : Int)) (hn : pc + 3 = nxt) (kt : ¬ x = y → K tgt L st h) (kf : x = y → K nxt L st h) : K pc L (vI y :: vI x :: st) h := by
  obtain ⟨p, e, R, s, m, args, below, meth, c, Z, hx, hb, hml, ho, hts, hds, hG, hRm, hr, hz, rfl⟩ := C
  subst hn
  intro H locs ls hl hR hlo hS h1 h2
  exact lv_icmp_ne hx hb d ht (fun q => kt q H locs ls hl hR hlo hS h1 h2) (fun q => kf q H locs ls hl hR hlo hS h1 h2)
theorem x_icmp_lt (C : Cx l D s0 cc own mn nL fr lw mc ms ret Q K) {x y : Int32} {off : Int} (tgt nxt : Nat) (d : decode cc pc = .ok (.if_icmp .lt off, 3)) (ht : (pc : Int) + off = (tgt : Int)) (hn : pc + 3 = nxt) (kt : x < y → K tgt L st h) (kf : ¬ x < y → K nxt L st h) : K pc L (vI y :: vI x :: st) h := by
  obtain ⟨p, e, R, s, m, args, below, meth, c, Z, hx, hb, hml, ho, hts, hds, hG, hRm, hr, hz, rfl⟩ := C
  subst hn
  intro H locs ls hl hR hlo hS h1 h2
  exact lv_icmp_lt hx hb d ht (fun q => kt q H locs ls hl hR hlo hS h1 h2) (fun q => kf q H locs ls hl hR hlo hS h1 h2)
theorem x_icmp_ge (C : Cx l D s0 cc own mn nL fr lw mc ms ret Q K) {x y : Int32} {off : Int} (tgt nxt : Nat) (d : decode cc pc = .ok (.if_icmp .ge off, 3)) (ht : (pc : Int) + off = (tgt : Int)) (hn : pc + 3 = nxt) (kt : y ≤ x → K tgt L st h) (kf : ¬ y ≤ x → K nxt L st h) : K pc L (vI y :: vI x :: st) h := by
  obtain ⟨p, e, R, s, m, args, below, meth, c, Z, hx, hb, hml, ho, hts, hds, hG, hRm, hr, hz, rfl⟩ := C
  subst hn
  intro H locs ls hl hR hlo hS h1 h2
  exact lv_icmp_ge hx hb d ht (fun q => kt q H locs ls hl hR hlo hS h1 h2) (fun q => kf q H locs ls hl hR hlo hS h1 h2)
theorem x_icmp_gt (C : Cx l D s0 cc own mn nL fr lw mc ms ret Q K) {x y : Int32} {off : Int} (tgt nxt : Nat) (d : decode cc pc = .ok (.if_icmp .gt off, 3)) (ht : (pc : Int) + off = (tgt : Int)) (hn : pc + 3 = nxt) (kt : y < x → K tgt L st h) (kf : ¬ y < x → K nxt L st h) : K pc L (vI y :: vI x :: st) h := by
  obtain ⟨p, e, R, s, m, args, below, meth, c, Z, hx, hb, hml, ho, hts, hds, hG, hRm, hr, hz, rfl⟩ := C
  subst hn
  intro H locs ls hl hR hlo hS h1 h2
  exact lv_icmp_gt hx hb d ht (fun q => kt q H locs ls hl hR hlo hS h1 h2) (fun q => kf q H locs ls hl hR hlo hS h1 h2)
theorem x_icmp_le (C : Cx l D s0 cc own mn nL fr lw mc ms ret Q K) {x y : Int32} {off : Int} (tgt nxt : Nat) (d : decode cc pc = .ok (.if_icmp .le off, 3)) (ht : (pc : Int) + off = (tgt : Int)) (hn : pc + 3 = nxt) (kt : x ≤ y → K tgt L st h) (kf : ¬ x ≤ y → K nxt L st h) : K pc L (vI y :: vI x :: st) h := by
  obtain ⟨p, e, R, s, m, args, below, meth, c, Z, hx, hb, hml, ho, hts, hds, hG, hRm, hr, hz, rfl⟩ := C
  subst hn
  intro H locs ls hl hR hlo hS h1 h2
  exact lv_icmp_le hx hb d ht (fun q => kt q H locs ls hl hR hlo hS h1 h2) (fun q => kf q H locs ls hl hR hlo hS h1 h2)
theorem x_if_eq (C : Cx l D s0 cc own mn nL fr lw mc ms ret Q K) {x : Int32} {off : Int} (tgt nxt : Nat) (d : decode cc pc = .ok (.ifCond .eq off, 3)) (ht : (pc : Int) + off = (tgt : Int)) (hn : pc + 3 = nxt) (kt : x = 0 → K tgt L st h) (kf : ¬ x = 0 → K nxt L st h) : K pc L (vI x :: st) h := by
  obtain ⟨p, e, R, s, m, args, below, meth, c, Z, hx, hb, hml, ho, hts, hds, hG, hRm, hr, hz, rfl⟩ := C
  subst hn
  intro H locs ls hl hR hlo hS h1 h2
  exact lv_if_eq hx hb d ht (fun q => kt q H locs ls hl hR hlo hS h1 h2) (fun q => kf q H locs ls hl hR hlo hS h1 h2)
theorem x_if_ne (C : Cx l D s0 cc own mn nL fr lw mc ms ret Q K) {x : Int32} {off : Int} (tgt nxt : Nat) (d : decode cc pc = .ok (.ifCond .ne off, 3)) (ht : (pc : Int) + off = (tgt : Int)) (hn : pc + 3 = nxt) (kt : ¬ x = 0 → K tgt L st h) (kf : x = 0 → K nxt L st h) : K pc L (vI x :: st) h := by
  obtain ⟨p, e, R, s, m, args, below, meth, c, Z, hx, hb, hml, ho, hts, hds, hG, hRm, hr, hz, rfl⟩ := C
  subst hn
  intro H locs ls hl hR hlo hS h1 h2
  exact lv_if_ne hx hb d ht (fun q => kt q H locs ls hl hR hlo hS h1 h2) (fun q => kf q H locs ls hl hR hlo hS h1 h2)
theorem x_if_lt (C : Cx l D s0 cc own mn nL fr lw mc ms ret Q K) {x : Int32} {off : Int} (tgt nxt : Nat) (d : decode cc pc = .ok (.ifCond .lt off, 3)) (ht : (pc : Int) + off = (tgt : Int)) (hn : pc + 3 = nxt) (kt : x < 0 → K tgt L st h) (kf : ¬ x < 0 → K nxt L st h) : K pc L (vI x :: st) h := by
  obtain ⟨p, e, R, s, m, args, below, meth, c, Z, hx, hb, hml, ho, hts, hds, hG, hRm, hr, hz, rfl⟩ := C
  subst hn
  intro H locs ls hl hR hlo hS h1 h2
  exact lv_if_lt hx hb d ht (fun q => kt q H locs ls hl hR hlo hS h1 h2) (fun q => kf q H locs ls hl hR hlo hS h1 h2)
theorem x_if_ge (C : Cx l D s0 cc own mn nL fr lw mc ms ret Q K) {x : Int32} {off : Int} (tgt nxt : Nat) (d : decode cc pc = .ok (.ifCond .ge off, 3)) (ht : (pc : Int) + off = (tgt : Int)) (hn : pc + 3 = nxt) (kt : 0 ≤ x → K tgt L st h) (kf : ¬ 0 ≤ x → K nxt L st h) : K pc L (vI x :: st) h := by
  obtain ⟨p, e, R, s, m, args, below, meth, c, Z, hx, hb, hml, ho, hts, hds, hG, hRm, hr, hz, rfl⟩ := C
  subst hn
  intro H locs ls hl hR hlo hS h1 h2
  exact lv_if_ge hx hb d ht (fun q => kt q H locs ls hl hR hlo hS h1 h2) (fun q => kf q H locs ls hl hR hlo hS h1 h2)
theorem x_if_gt (C : Cx l D s0 cc own mn nL fr lw mc ms ret Q K) {x : Int32} {off : Int} (tgt nxt : Nat) (d : decode cc pc = .ok (.ifCond .gt off, 3)) (ht : (pc : Int) + off = (tgt : Int)) (hn : pc + 3 = nxt) (kt : 0 < x → K tgt L st h) (kf : ¬ 0 < x → K nxt L st h) : K pc L (vI x :: st) h := by
  obtain ⟨p, e, R, s, m, args, below, meth, c, Z, hx, hb, hml, ho, hts, hds, hG, hRm, hr, hz, rfl⟩ := C
  subst hn
  intro H locs ls hl hR hlo hS h1 h2
  exact lv_if_gt hx hb d ht (fun q => kt q H locs ls hl hR hlo hS h1 h2) (fun q => kf q H locs ls hl hR hlo hS h1 h2)
theorem x_if_le (C : Cx l D s0 cc own mn nL fr lw mc ms ret Q K) {x : Int32} {off : Int} (tgt nxt : Nat) (d : decode cc pc = .ok (.ifCond .le off, 3)) (ht : (pc : Int) + off = (tgt : Int)) (hn : pc + 3 = nxt) (kt : x ≤ 0 → K tgt L st h) (kf : ¬ x ≤ 0 → K nxt L st h) : K pc L (vI x :: st) h := by
  obtain ⟨p, e, R, s, m, args, below, meth, c, Z, hx, hb, hml, ho, hts, hds, hG, hRm, hr, hz, rfl⟩ := C
  subst hn
  intro H locs ls hl hR hlo hS h1 h2
  exact lv_if_le hx hb d ht (fun q => kt q H locs ls hl hR hlo hS h1 h2) (fun q => kf q H locs ls hl hR hlo hS h1 h2)
theorem x_acmp_eq (C : Cx l D s0 cc own mn nL fr lw mc ms ret Q K) {x y : Option Nat} {off : Int} (tgt nxt : Nat) (d : decode cc pc = .ok (.if_acmp .eq off, 3)) (ht : (pc : Int) + off = (tgt : Int)) (hn : pc + 3 = nxt) (kt : x = y → K tgt L st h) (kf : ¬ x = y → K nxt L st h) : K pc L (vA y :: vA x :: st) h := by
  obtain ⟨p, e, R, s, m, args, below, meth, c, Z, hx, hb, hml, ho, hts, hds, hG, hRm, hr, hz, rfl⟩ := C
  subst hn
  intro H locs ls hl hR hlo hS h1 h2
  exact lv_acmp_eq hx hb d ht (fun q => kt q H locs ls hl hR hlo hS h1 h2) (fun q => kf q H locs ls hl hR hlo hS h1 h2)
theorem x_acmp_ne (C : Cx l D s0 cc own mn nL fr lw mc ms ret Q K) {x y : Option Nat} {off : Int} (tgt nxt : Nat) (d : decode cc pc = .ok (.if_acmp .ne off, 3)) (ht : (pc : Int) + off = (tgt : Int)) (hn : pc + 3 = nxt) (kt : ¬ x = y → K tgt L st h) (kf : x = y → K nxt L st h) : K pc L (vA y :: vA x :: st) h := by
  obtain ⟨p, e, R, s, m, args, below, meth, c, Z, hx, hb, hml, ho, hts, hds, hG, hRm, hr, hz, rfl⟩ := C
  subst hn
  intro H locs ls hl hR hlo hS h1 h2
  exact lv_acmp_ne hx hb d ht (fun q => kt q H locs ls hl hR hlo hS h1 h2) (fun q => kf q H locs ls hl hR hlo hS h1 h2)
theorem x_ifnull (C : Cx l D s0 cc own mn nL fr lw mc ms ret Q K) {x : Option Nat} {off : Int} (tgt nxt : Nat) (d : decode cc pc = .ok (.ifnull off, 3)) (ht : (pc : Int) + off = (tgt : Int)) (hn : pc + 3 = nxt) (kt : x = none → K tgt L st h) (kf : ¬ x = none → K nxt L st h) : K pc L (vA x :: st) h := by
  obtain ⟨p, e, R, s, m, args, below, meth, c, Z, hx, hb, hml, ho, hts, hds, hG, hRm, hr, hz, rfl⟩ := C
  subst hn
  intro H locs ls hl hR hlo hS h1 h2
  cases x with
  | none => exact lv_ifnullN hx hb d ht (kt rfl H locs ls hl hR hlo hS h1 h2)
  | some a => exact lv_ifnull hx hb d (kf (fun q => by cases q) H locs ls hl hR hlo hS h1 h2)
theorem x_ifnonnull (C : Cx l D s0 cc own mn nL fr lw mc ms ret Q K) {x : Option Nat} {off : Int} (tgt nxt : Nat) (d : decode cc pc = .ok (.ifnonnull off, 3)) (ht : (pc : Int) + off = (tgt : Int)) (hn : pc + 3 = nxt) (kt : ¬ x = none → K tgt L st h) (kf : x = none → K nxt L st h) : K pc L (vA x :: st) h := by
  obtain ⟨p, e, R, s, m, args, below, meth, c, Z, hx, hb, hml, ho, hts, hds, hG, hRm, hr, hz, rfl⟩ := C
  subst hn
  intro H locs ls hl hR hlo hS h1 h2
  cases x with
  | none => exact lv_ifnonnullN hx hb d (kf rfl H locs ls hl hR hlo hS h1 h2)
  | some a => exact lv_ifnonnull hx hb d ht (kt (fun q => by cases q) H locs ls hl hR hlo hS h1 h2)
theorem x_goto (C : Cx l D s0 cc own mn nL fr lw mc ms ret Q K) {off : Int} (tgt : Nat) (d : decode cc pc = .ok (.goto off, 3)) (ht : (pc : Int) + off = (tgt : Int)) (k : K tgt L st h) : K pc L st h := by
  obtain ⟨p, e, R, s, m, args, below, meth, c, Z, hx, hb, hml, ho, hts, hds, hG, hRm, hr, hz, rfl⟩ := C
  intro H locs ls hl hR hlo hS h1 h2
  exact lv_goto hx hb d ht (k H locs ls hl hR hlo hS h1 h2)
theorem x_ldc (C : Cx l D s0 cc own mn nL fr lw mc ms ret Q K) {index : Nat} {v : Int32} (nxt : Nat) (d : decode cc pc = .ok (.ldc index, 2)) (hn : pc + 2 = nxt) (hw : Cond.constant own index v ∈ lw_all) (k : K nxt L (vI v :: st) h) : K pc L st h := by
  obtain ⟨p, e, R, s, m, args, below, meth, c, Z, hx, hb, hml, ho, hts, hds, hG, hRm, hr, hz, rfl⟩ := C
  subst hn
  intro H locs ls hl hR hlo hS h1 h2
  exact lv_ldc hx hb ho (hts _ hw) d (k H locs ls hl hR hlo hS h1 h2)
theorem x_ldcw (C : Cx l D s0 cc own mn nL fr lw mc ms ret Q K) {index : Nat} {v : Int32} (nxt : Nat) (d : decode cc pc = .ok (.ldc_w index, 3)) (hn : pc + 3 = nxt) (hw : Cond.constant own index v ∈ lw_all) (k : K nxt L (vI v :: st) h) : K pc L st h := by
  obtain ⟨p, e, R, s, m, args, below, meth, c, Z, hx, hb, hml, ho, hts, hds, hG, hRm, hr, hz, rfl⟩ := C
  subst hn
  intro H locs ls hl hR hlo hS h1 h2
  exact lv_ldcw hx hb ho (hts _ hw) d (k H locs ls hl hR hlo hS h1 h2)
theorem x_ldc2 (C : Cx l D s0 cc own mn nL fr lw mc ms ret Q K) {index : Nat} {v : Int64} (nxt : Nat) (d : decode cc pc = .ok (.ldc2_w index, 3)) (hn : pc + 3 = nxt) (hw : Cond.constantLong own index v ∈ lw_all) (k : K nxt L (vJ v :: st) h) : K pc L st h := by
  obtain ⟨p, e, R, s, m, args, below, meth, c, Z, hx, hb, hml, ho, hts, hds, hG, hRm, hr, hz, rfl⟩ := C
  subst hn
  intro H locs ls hl hR hlo hS h1 h2
  exact lv_ldc2 hx hb ho (hts _ hw) d (k H locs ls hl hR hlo hS h1 h2)
theorem x_tabIn (C : Cx l D s0 cc own mn nL fr lw mc ms ret Q K) {dflt lo hi : Int} {offs : Array Int} {len : Nat} {x v : Int32} {off : Int} (tgt : Nat) (d : decode cc pc = .ok (.tableswitch dflt lo hi offs, len)) (hv : x = v) (h1 : decide (v.toInt < lo) = false) (h2 : decide (hi < v.toInt) = false) (ho : offs[(v.toInt - lo).toNat]? = some off) (ht : (pc : Int) + off = (tgt : Int)) (k : K tgt L st h) : K pc L (vI x :: st) h := by
  obtain ⟨p, e, R, s, m, args, below, meth, c, Z, hx, hb, hml, ho', hts, hds, hG, hRm, hr, hz, rfl⟩ := C
  subst hv
  intro H locs ls hl hR hlo hS g1 g2
  exact lv_tableIn hx hb d (of_decide_eq_false h1) (of_decide_eq_false h2) ho ht (k H locs ls hl hR hlo hS g1 g2)
theorem x_tabOut (C : Cx l D s0 cc own mn nL fr lw mc ms ret Q K) {dflt lo hi : Int} {offs : Array Int} {len : Nat} {x : Int32} (tgt : Nat) (d : decode cc pc = .ok (.tableswitch dflt lo hi offs, len)) (h1 : x.toInt < lo ∨ hi < x.toInt) (ht : (pc : Int) + dflt = (tgt : Int)) (k : K tgt L st h) : K pc L (vI x :: st) h := by
  obtain ⟨p, e, R, s, m, args, below, meth, c, Z, hx, hb, hml, ho', hts, hds, hG, hRm, hr, hz, rfl⟩ := C
  intro H locs ls hl hR hlo hS g1 g2
  exact lv_tableOut hx hb d h1 ht (k H locs ls hl hR hlo hS g1 g2)
theorem x_iald (C : Cx l D s0 cc own mn nL fr lw mc ms ret Q K) {i : Int32} {r : Option Nat} (nxt : Nat) (d : decode cc pc = .ok (.iaload, 1)) (hn : pc + 1 = nxt) (hi : ix h r 40 i) (k : K nxt L (vI (h.ai (adr r) (ni i)) :: st) h) : K pc L (vI i :: vA r :: st) h := by
  obtain ⟨p, e, R, s, m, args, below, meth, c, Z, hx, hb, hml, ho, hts, hds, hG, hRm, hr, hz, rfl⟩ := C
  subst hn
  obtain ⟨a, rfl, hkd, hin⟩ := hi
  intro H locs ls hl hR hlo hS h1 h2
  have hA : AR (h.kd a).1 = some (.int) := by rw [hkd]; rfl
  have hcell : H[a]? = some (arrV (D.1 (h.kd a).1) (h.kd a).2 (fun j => .int (h.ai a j))) := hR.arr hA (by rw [hkd]; rfl)
  have hlt : i.toNatClampNeg < (h.kd a).2 := Nat.not_le.mp fun q => hin (Or.inr q)
  exact W.iald (v := .int (h.ai a i.toNatClampNeg)) hx hb hcell ((hds.ar hG hA).1 (h.kd a).2 (fun j => .int (h.ai a j))) (fun q => by cases q) (by show ¬ (i < 0 ∨ (arrV _ _ _).slots.size ≤ _); rw [arrV_size]; exact hin) (by show (arrV _ _ _).slots[_]? = _; rw [arrV_read _ _ hlt]) rfl rfl d (k H locs ls hl hR hlo hS h1 h2)
theorem x_bald (C : Cx l D s0 cc own mn nL fr lw mc ms ret Q K) {i : Int32} {r : Option Nat} (nxt : Nat) (d : decode cc pc = .ok (.baload, 1)) (hn : pc + 1 = nxt) (hi : ix h r 41 i) (k : K nxt L (vI (h.ai (adr r) (ni i)) :: st) h) : K pc L (vI i :: vA r :: st) h := by
  obtain ⟨p, e, R, s, m, args, below, meth, c, Z, hx, hb, hml, ho, hts, hds, hG, hRm, hr, hz, rfl⟩ := C
  subst hn
  obtain ⟨a, rfl, hkd, hin⟩ := hi
  intro H locs ls hl hR hlo hS h1 h2
  have hA : AR (h.kd a).1 = some (.byte) := by rw [hkd]; rfl
  obtain ⟨cell, hcell, g1, g2, g3, g4, -⟩ : aO h.lo a H (arrV (D.1 (h.kd a).1) (h.kd a).2 (fun j => .int (h.ai a j))) := (hR.2.2.2 a).2 _ hA
  have hlt : i.toNatClampNeg < (h.kd a).2 := Nat.not_le.mp fun q => hin (Or.inr q)
  exact W.bald (v := .int (h.ai a i.toNatClampNeg)) hx hb hcell (isArr_of g1 g4 ((hds.ar hG hA).1 (h.kd a).2 (fun j => .int (h.ai a j)))) g3 (by rw [g2, arrV_size]; exact hin) (by rw [g2, arrV_read _ _ hlt]) rfl rfl d (k H locs ls hl hR hlo hS h1 h2)
theorem x_zald (C : Cx l D s0 cc own mn nL fr lw mc ms ret Q K) {i : Int32} {r : Option Nat} (nxt : Nat) (d : decode cc pc = .ok (.baload, 1)) (hn : pc + 1 = nxt) (hi : ix h r 42 i) (k : K nxt L (vI (h.ai (adr r) (ni i)) :: st) h) : K pc L (vI i :: vA r :: st) h := by
  obtain ⟨p, e, R, s, m, args, below, meth, c, Z, hx, hb, hml, ho, hts, hds, hG, hRm, hr, hz, rfl⟩ := C
  subst hn
  obtain ⟨a, rfl, hkd, hin⟩ := hi
  intro H locs ls hl hR hlo hS h1 h2
  have hA : AR (h.kd a).1 = some (.boolean) := by rw [hkd]; rfl
  have hcell : H[a]? = some (arrV (D.1 (h.kd a).1) (h.kd a).2 (fun j => .int (h.ai a j))) := hR.arr hA (by rw [hkd]; rfl)
  have hlt : i.toNatClampNeg < (h.kd a).2 := Nat.not_le.mp fun q => hin (Or.inr q)
  exact W.zald (v := .int (h.ai a i.toNatClampNeg)) hx hb hcell ((hds.ar hG hA).1 (h.kd a).2 (fun j => .int (h.ai a j))) (fun q => by cases q) (by show ¬ (i < 0 ∨ (arrV _ _ _).slots.size ≤ _); rw [arrV_size]; exact hin) (by show (arrV _ _ _).slots[_]? = _; rw [arrV_read _ _ hlt]) rfl rfl d (k H locs ls hl hR hlo hS h1 h2)
theorem x_lald (C : Cx l D s0 cc own mn nL fr lw mc ms ret Q K) {i : Int32} {r : Option Nat} (nxt : Nat) (d : decode cc pc = .ok (.laload, 1)) (hn : pc + 1 = nxt) (hi : ix h r 43 i) (k : K nxt L (vJ (h.al (adr r) (ni i)) :: st) h) : K pc L (vI i :: vA r :: st) h := by
  obtain ⟨p, e, R, s, m, args, below, meth, c, Z, hx, hb, hml, ho, hts, hds, hG, hRm, hr, hz, rfl⟩ := C
  subst hn
  obtain ⟨a, rfl, hkd, hin⟩ := hi
  intro H locs ls hl hR hlo hS h1 h2
  have hA : AR (h.kd a).1 = some (.long) := by rw [hkd]; rfl
  have hcell : H[a]? = some (arrV (D.1 (h.kd a).1) (h.kd a).2 (fun j => .long (h.al a j))) := hR.arr hA (by rw [hkd]; rfl)
  have hlt : i.toNatClampNeg < (h.kd a).2 := Nat.not_le.mp fun q => hin (Or.inr q)
  exact W.lald (v := .long (h.al a i.toNatClampNeg)) hx hb hcell ((hds.ar hG hA).1 (h.kd a).2 (fun j => .long (h.al a j))) (fun q => by cases q) (by show ¬ (i < 0 ∨ (arrV _ _ _).slots.size ≤ _); rw [arrV_size]; exact hin) (by show (arrV _ _ _).slots[_]? = _; rw [arrV_read _ _ hlt]) rfl rfl d (k H locs ls hl hR hlo hS h1 h2)
theorem x_iast (C : Cx l D s0 cc own mn nL fr lw mc ms ret Q K) {i : Int32} {x : Int32} {r : Option Nat} (nxt : Nat) (d : decode cc pc = .ok (.iastore, 1)) (hn : pc + 1 = nxt) (hi : ix h r 40 i) (hro : ROk 40 = false ∨ h.lo ≤ adr r) (k : K nxt L st (h.sai (adr r) (ni i) x)) : K pc L (vI x :: vI i :: vA r :: st) h := by
  obtain ⟨p, e, R, s, m, args, below, meth, c, Z, hx, hb, hml, ho, hts, hds, hG, hRm, hr, hz, rfl⟩ := C
  subst hn
  obtain ⟨a, rfl, hkd, hin⟩ := hi
  intro H locs ls hl hR hlo hS h1 h2
  have hA : AR (h.kd a).1 = some (.int) := by rw [hkd]; rfl
  have hcell : H[a]? = some (arrV (D.1 (h.kd a).1) (h.kd a).2 (fun j => .int (h.ai a j))) := ((hR.2.2.2 a).2 _ hA).get (hro.elim (fun q => hR.2.2.1 a (by rw [hkd]; exact q)) (fun q => q))
  have hloa : Lo s0 a := by
    refine hR.free hlo ?_ ?_
    · first | exact CL_ne hc | exact AR_ne hA | exact AR_ne hA1
    · rcases hro with q | q
      · exact hR.2.2.1 a (by rw [hkd]; exact q)
      · exact q
  refine W.iast hx hb hcell ((hds.ar hG hA).1 (h.kd a).2 (fun j => .int (h.ai a j))) (fun q => by cases q) (by show ¬ (i < 0 ∨ (arrV _ _ _).slots.size ≤ _); rw [arrV_size]; exact hin) rfl rfl d fun H1 e1 e2 e3 => ?_
  refine k H1 _ ls hl (hR.ch Ch.sai e2 e3 ⟨fun i' hi' => ?_, fun ty hty => ?_⟩) hlo (hS.put e2 e3 hloa) h1 h2
  · have : CL (h.kd a).1 = some i' := hi'
    rw [AR_CL hA] at this; cases this
  · have hty' : AR (h.kd a).1 = some ty := hty
    cases hA.symm.trans hty'
    refine aO.of ?_
    show H1[a]? = _
    rw [e1]
    show some _ = some (vp_cell (D.1 (h.kd a).1) _)
    congr 1
    show (arrV _ _ _).setSlot _ _ = arrV (D.1 (h.kd a).1) (h.kd a).2 (fun j => .int ((h.sai a (ni i) x).ai a j))
    rw [arrV_store]
    congr 1
    funext q
    by_cases hq : q = i.toNatClampNeg
    · subst hq
      simp [updV, AH.sai, AH.mk, AH.ai, up2, adr, ni]
    · simp [updV, AH.sai, AH.mk, AH.ai, up2, adr, ni, hq]
theorem x_bast (C : Cx l D s0 cc own mn nL fr lw mc ms ret Q K) {i : Int32} {x : Int32} {r : Option Nat} (nxt : Nat) (d : decode cc pc = .ok (.bastore, 1)) (hn : pc + 1 = nxt) (hi : ix h r 41 i) (hro : ROk 41 = false ∨ h.lo ≤ adr r) (k : K nxt L st (h.sai (adr r) (ni i) (vp_nar .byte x))) : K pc L (vI x :: vI i :: vA r :: st) h := by
  obtain ⟨p, e, R, s, m, args, below, meth, c, Z, hx, hb, hml, ho, hts, hds, hG, hRm, hr, hz, rfl⟩ := C
  subst hn
  obtain ⟨a, rfl, hkd, hin⟩ := hi
  intro H locs ls hl hR hlo hS h1 h2
  have hA : AR (h.kd a).1 = some (.byte) := by rw [hkd]; rfl
  have hcell : H[a]? = some (arrV (D.1 (h.kd a).1) (h.kd a).2 (fun j => .int (h.ai a j))) := ((hR.2.2.2 a).2 _ hA).get (hro.elim (fun q => hR.2.2.1 a (by rw [hkd]; exact q)) (fun q => q))
  have hloa : Lo s0 a := by
    refine hR.free hlo ?_ ?_
    · first | exact CL_ne hc | exact AR_ne hA | exact AR_ne hA1
    · rcases hro with q | q
      · exact hR.2.2.1 a (by rw [hkd]; exact q)
      · exact q
  refine W.bast hx hb hcell ((hds.ar hG hA).1 (h.kd a).2 (fun j => .int (h.ai a j))) (fun q => by cases q) (by show ¬ (i < 0 ∨ (arrV _ _ _).slots.size ≤ _); rw [arrV_size]; exact hin) rfl rfl d fun H1 e1 e2 e3 => ?_
  refine k H1 _ ls hl (hR.ch Ch.sai e2 e3 ⟨fun i' hi' => ?_, fun ty hty => ?_⟩) hlo (hS.put e2 e3 hloa) h1 h2
  · have : CL (h.kd a).1 = some i' := hi'
    rw [AR_CL hA] at this; cases this
  · have hty' : AR (h.kd a).1 = some ty := hty
    cases hA.symm.trans hty'
    refine aO.of ?_
    show H1[a]? = _
    rw [e1]
    show some _ = some (vp_cell (D.1 (h.kd a).1) _)
    congr 1
    show (arrV _ _ _).setSlot _ _ = arrV (D.1 (h.kd a).1) (h.kd a).2 (fun j => .int ((h.sai a (ni i) (vp_nar .byte x)).ai a j))
    rw [arrV_store]
    congr 1
    funext q
    by_cases hq : q = i.toNatClampNeg
    · subst hq
      simp [updV, AH.sai, AH.mk, AH.ai, up2, adr, ni, vp_nar, narrow]
    · simp [updV, AH.sai, AH.mk, AH.ai, up2, adr, ni, hq]
theorem x_zast (C : Cx l D s0 cc own mn nL fr lw mc ms ret Q K) {i : Int32} {x : Int32} {r : Option Nat} (nxt : Nat) (d : decode cc pc = .ok (.bastore, 1)) (hn : pc + 1 = nxt) (hi : ix h r 42 i) (hro : ROk 42 = false ∨ h.lo ≤ adr r) (k : K nxt L st (h.sai (adr r) (ni i) (vp_nar .boolean x))) : K pc L (vI x :: vI i :: vA r :: st) h := by
  obtain ⟨p, e, R, s, m, args, below, meth, c, Z, hx, hb, hml, ho, hts, hds, hG, hRm, hr, hz, rfl⟩ := C
  subst hn
  obtain ⟨a, rfl, hkd, hin⟩ := hi
  intro H locs ls hl hR hlo hS h1 h2
  have hA : AR (h.kd a).1 = some (.boolean) := by rw [hkd]; rfl
  have hcell : H[a]? = some (arrV (D.1 (h.kd a).1) (h.kd a).2 (fun j => .int (h.ai a j))) := ((hR.2.2.2 a).2 _ hA).get (hro.elim (fun q => hR.2.2.1 a (by rw [hkd]; exact q)) (fun q => q))
  have hloa : Lo s0 a := by
    refine hR.free hlo ?_ ?_
    · first | exact CL_ne hc | exact AR_ne hA | exact AR_ne hA1
    · rcases hro with q | q
      · exact hR.2.2.1 a (by rw [hkd]; exact q)
      · exact q
  refine W.zast hx hb hcell ((hds.ar hG hA).1 (h.kd a).2 (fun j => .int (h.ai a j))) (fun q => by cases q) (by show ¬ (i < 0 ∨ (arrV _ _ _).slots.size ≤ _); rw [arrV_size]; exact hin) rfl rfl d fun H1 e1 e2 e3 => ?_
  refine k H1 _ ls hl (hR.ch Ch.sai e2 e3 ⟨fun i' hi' => ?_, fun ty hty => ?_⟩) hlo (hS.put e2 e3 hloa) h1 h2
  · have : CL (h.kd a).1 = some i' := hi'
    rw [AR_CL hA] at this; cases this
  · have hty' : AR (h.kd a).1 = some ty := hty
    cases hA.symm.trans hty'
    refine aO.of ?_
    show H1[a]? = _
    rw [e1]
    show some _ = some (vp_cell (D.1 (h.kd a).1) _)
    congr 1
    show (arrV _ _ _).setSlot _ _ = arrV (D.1 (h.kd a).1) (h.kd a).2 (fun j => .int ((h.sai a (ni i) (vp_nar .boolean x)).ai a j))
    rw [arrV_store]
    congr 1
    funext q
    by_cases hq : q = i.toNatClampNeg
    · subst hq
      simp [updV, AH.sai, AH.mk, AH.ai, up2, adr, ni, vp_nar, narrow]
    · simp [updV, AH.sai, AH.mk, AH.ai, up2, adr, ni, hq]
theorem x_last (C : Cx l D s0 cc own mn nL fr lw mc ms ret Q K) {i : Int32} {x : Int64} {r : Option Nat} (nxt : Nat) (d : decode cc pc = .ok (.lastore, 1)) (hn : pc + 1 = nxt) (hi : ix h r 43 i) (hro : ROk 43 = false ∨ h.lo ≤ adr r) (k : K nxt L st (h.sal (adr r) (ni i) x)) : K pc L (vJ x :: vI i :: vA r :: st) h := by
  obtain ⟨p, e, R, s, m, args, below, meth, c, Z, hx, hb, hml, ho, hts, hds, hG, hRm, hr, hz, rfl⟩ := C
  subst hn
  obtain ⟨a, rfl, hkd, hin⟩ := hi
  intro H locs ls hl hR hlo hS h1 h2
  have hA : AR (h.kd a).1 = some (.long) := by rw [hkd]; rfl
  have hcell : H[a]? = some (arrV (D.1 (h.kd a).1) (h.kd a).2 (fun j => .long (h.al a j))) := ((hR.2.2.2 a).2 _ hA).get (hro.elim (fun q => hR.2.2.1 a (by rw [hkd]; exact q)) (fun q => q))
  have hloa : Lo s0 a := by
    refine hR.free hlo ?_ ?_
    · first | exact CL_ne hc | exact AR_ne hA | exact AR_ne hA1
    · rcases hro with q | q
      · exact hR.2.2.1 a (by rw [hkd]; exact q)
      · exact q
  refine W.last hx hb hcell ((hds.ar hG hA).1 (h.kd a).2 (fun j => .long (h.al a j))) (fun q => by cases q) (by show ¬ (i < 0 ∨ (arrV _ _ _).slots.size ≤ _); rw [arrV_size]; exact hin) rfl rfl d fun H1 e1 e2 e3 => ?_
  refine k H1 _ ls hl (hR.ch Ch.sal e2 e3 ⟨fun i' hi' => ?_, fun ty hty => ?_⟩) hlo (hS.put e2 e3 hloa) h1 h2
  · have : CL (h.kd a).1 = some i' := hi'
    rw [AR_CL hA] at this; cases this
  · have hty' : AR (h.kd a).1 = some ty := hty
    cases hA.symm.trans hty'
    refine aO.of ?_
    show H1[a]? = _
    rw [e1]
    show some _ = some (vp_cell (D.1 (h.kd a).1) _)
    congr 1
    show (arrV _ _ _).setSlot _ _ = arrV (D.1 (h.kd a).1) (h.kd a).2 (fun j => .long ((h.sal a (ni i) x).al a j))
    rw [arrV_store]
    congr 1
    funext q
    by_cases hq : q = i.toNatClampNeg
    · subst hq
      simp [updV, AH.sal, AH.mk, AH.al, up2, adr, ni]
    · simp [updV, AH.sal, AH.mk, AH.al, up2, adr, ni, hq]
end ROWS3
def largs : Nat → List SV → List (Nat × SV)
  | _, [] => []
  | i, v :: vs => (i, v) :: largs (i + wd v) vs
theorem largs_map : ∀ (n : Nat) (vs : List SV), lv_args n (vs.map tV) = (largs n vs).map tL
  | _, [] => rfl
  | n, v :: vs => by
    show (n, tV v) :: lv_args (if (tV v).category = 2 then n + 2 else n + 1) (vs.map tV) = (n, tV v) :: (largs (n + wd v) vs).map tL
    rw [tV_cat, ← largs_map]
    rcases v with x | x | x <;> rfl
theorem sl_len : ∀ (vs : List SV), (lg_sl (vs.map tV)).length = (vs.map wd).sum
  | [] => rfl
  | v :: vs => by
    have ih := sl_len vs
    unfold lg_sl at ih ⊢
    rw [List.map_cons, List.flatMap_cons, List.length_append, ih, List.map_cons, List.sum_cons, tV_cat]
    rcases v with x | x | x <;> rfl
/-- how a method begins: its arguments and the heap -/
def Pg (D : va_G) (s0 : S0) (vs : List SV) (h : AH) : Array Value → State → Prop := fun a U => a = (vs.map tV).toArray ∧ Rp D U.heap h ∧ h.bs = bsOf s0 ∧ DS s0 U
/-- the contract of a method from these arguments and this heap on -/
def OKm (l : Launch) (D : va_G) (s0 : S0) (y : MethodName) (cc : ByteArray) (nL : Nat) (ret : Option FieldType) (fr lw : Nat) (vs : List SV) (h : AH) (Q : Option SV → AH → Prop) : Prop :=
  Met l y (ws_ y cc nL ret) { frames := fr, cells := h.rc, slots := h.rs, locals := lw } (Pg D s0 vs h) (Qg D s0 Q) h.rc h.rs (Lo s0)
theorem x_met {l : Launch} {D : va_G} {s0 : S0} (hG : G0 D s0) {y : MethodName} {cc : ByteArray} {nL : Nat} {ret : Option FieldType} {fr lw : Nat} {own mn : String} {vs : List SV} {L0 : List (Nat × SV)} {h : AH} {Q : Option SV → AH → Prop} (hy : plainName y.cls = true) (hown : y.cls = own) (hmn : y.name = mn) (hL : largs 0 vs = L0) (hlen : Nat.ble (vs.map wd).sum nL = true)
    (body : ∀ K, Cx l D s0 cc own mn nL fr lw h.rc h.rs ret Q K → K 0 L0 [] h) : OKm l D s0 y cc nL ret fr lw vs h Q := by
  refine Met.ofW (cc := cc) (maxL := nL) (ret := ret) hy rfl ?_
  intro p e s m args below meth c s₁ B hml hv
  obtain ⟨rfl, hR, hlo, hds⟩ := hv
  have hts := atoms_spec (ws := ws_ y cc nL ret) B.pre
  have hts : ∀ w ∈ lw_all, w.before _ s = true := fun w h => hts w (List.mem_cons_of_mem _ h)
  have ho : s.vm.findClass own = some m.cls := by rw [← hown]; exact findClass_of_methodNamed B.named
  have hname : meth.name = mn := by rw [← hmn]; exact (name_of_methodNamed B.named B.method).1
  have hb := body _ ⟨p, e, (headSpec (ws_ y cc nL ret) { frames := fr, cells := h.rc, slots := h.rs, locals := lw }).room, s, m, _, below, meth, c, _, B.exec, B.bytes, hml, ho, hts, hds, hG, ⟨rfl, rfl, rfl, rfl⟩, ⟨B.returns, B.notSynchronized, hname⟩, fun H locs k n g hw => hw, rfl⟩
  rw [lg_entry_eq]
  have hl := lv_entry (vs.map tV) (n := nL) (by rw [sl_len]; exact Nat.le_of_ble_eq_true hlen)
  rw [largs_map, hL] at hl
  have := hb s.heap [] _ hl hR hlo va_S.rf (Nat.le_refl _) (Nat.le_refl _)
  rw [Nat.sub_self, Nat.sub_self] at this
  exact this
def QI (Q : Int32 → AH → Prop) : Option SV → AH → Prop := fun v h => ∃ x, v = some (vI x) ∧ Q x h
def QJ (Q : Int64 → AH → Prop) : Option SV → AH → Prop := fun v h => ∃ x, v = some (vJ x) ∧ Q x h
def QA (Q : Option Nat → AH → Prop) : Option SV → AH → Prop := fun v h => ∃ x, v = some (vA x) ∧ Q x h
def QV (Q : AH → Prop) : Option SV → AH → Prop := fun v h => v = none ∧ Q h
section ROWS4
variable {l : Launch} {D : va_G} {s0 : S0} {cc : ByteArray} {own mn : String} {nL fr lw mc ms : Nat} {ret : Option FieldType} {K : KT}
variable {pc : Nat} {L : List (Nat × SV)} {st : List SV} {h : AH}
theorem x_vret {Q : Option SV → AH → Prop} (C : Cx l D s0 cc own mn nL fr lw mc ms none Q K) (d : decode cc pc = .ok (.return_, 1)) (hq : Q none h) : K pc L [] h := by
  obtain ⟨p, e, R, s, m, args, below, meth, c, Z, hx, hb, hml, ho, hts, hds, hG, hRm, ⟨hr, hlk, -⟩, hz, rfl⟩ := C
  intro H locs ls hl hR hlo hS h1 h2
  refine hz _ _ _ _ _ (W.widen (k := mc) (n := ms) (Nat.sub_le _ _) (Nat.sub_le _ _) ?_)
  exact W.vret hx hb hr (fun t ht hW => ⟨none, h, rfl, hq, by rw [ht]; exact hR, hlo, hS.F ht⟩) hS.2.2 d hlk
theorem x_iret {Q : Option SV → AH → Prop} {x : Int32} (C : Cx l D s0 cc own mn nL fr lw mc ms (some .int)  Q K) (d : decode cc pc = .ok (.ireturn, 1)) (hq : Q (some (vI x)) h) : K pc L [vI x] h := by
  obtain ⟨p, e, R, s, m, args, below, meth, c, Z, hx, hb, hml, ho, hts, hds, hG, hRm, ⟨hr, hlk, -⟩, hz, rfl⟩ := C
  intro H locs ls hl hR hlo hS h1 h2
  refine hz _ _ _ _ _ (W.widen (k := mc) (n := ms) (Nat.sub_le _ _) (Nat.sub_le _ _) ?_)
  exact W.iret hx hb hr (fun t ht hW => ⟨some (vI x), h, rfl, hq, by rw [ht]; exact hR, hlo, hS.F ht⟩) hS.2.2 d hlk
theorem x_zret {Q : Option SV → AH → Prop} {x : Int32} {ty : FieldType} (C : Cx l D s0 cc own mn nL fr lw mc ms (some ty)  Q K) (d : decode cc pc = .ok (.ireturn, 1)) (hn : narrow ty (.int x) = .int x) (hq : Q (some (vI x)) h) : K pc L [vI x] h := by
  obtain ⟨p, e, R, s, m, args, below, meth, c, Z, hx, hb, hml, ho, hts, hds, hG, hRm, ⟨hr, hlk, -⟩, hz, rfl⟩ := C
  intro H locs ls hl hR hlo hS h1 h2
  refine hz _ _ _ _ _ (W.widen (k := mc) (n := ms) (Nat.sub_le _ _) (Nat.sub_le _ _) ?_)
  exact W.zret hx hb hr hn (fun t ht hW => ⟨some (vI x), h, rfl, hq, by rw [ht]; exact hR, hlo, hS.F ht⟩) hS.2.2 d hlk
theorem x_lret {Q : Option SV → AH → Prop} {x : Int64} (C : Cx l D s0 cc own mn nL fr lw mc ms (some .long)  Q K) (d : decode cc pc = .ok (.lreturn, 1)) (hq : Q (some (vJ x)) h) : K pc L [vJ x] h := by
  obtain ⟨p, e, R, s, m, args, below, meth, c, Z, hx, hb, hml, ho, hts, hds, hG, hRm, ⟨hr, hlk, -⟩, hz, rfl⟩ := C
  intro H locs ls hl hR hlo hS h1 h2
  refine hz _ _ _ _ _ (W.widen (k := mc) (n := ms) (Nat.sub_le _ _) (Nat.sub_le _ _) ?_)
  exact W.lret hx hb hr (fun t ht hW => ⟨some (vJ x), h, rfl, hq, by rw [ht]; exact hR, hlo, hS.F ht⟩) hS.2.2 d hlk
theorem x_aret {Q : Option SV → AH → Prop} {x : Option Nat} {ty : FieldType} (C : Cx l D s0 cc own mn nL fr lw mc ms (some ty)  Q K) (d : decode cc pc = .ok (.areturn, 1)) (hty : (∃ n, ty = .object n) ∨ ∃ t, ty = .array t) (hq : Q (some (vA x)) h) : K pc L [vA x] h := by
  obtain ⟨p, e, R, s, m, args, below, meth, c, Z, hx, hb, hml, ho, hts, hds, hG, hRm, ⟨hr, hlk, -⟩, hz, rfl⟩ := C
  intro H locs ls hl hR hlo hS h1 h2
  refine hz _ _ _ _ _ (W.widen (k := mc) (n := ms) (Nat.sub_le _ _) (Nat.sub_le _ _) ?_)
  exact W.aret hx hb hr hty (by cases x with | none => exact Or.inl rfl | some a => exact Or.inr ⟨a, rfl⟩) (fun t ht hW => ⟨some (vA x), h, rfl, hq, by rw [ht]; exact hR, hlo, hS.F ht⟩) hS.2.2 d hlk
end ROWS4
theorem Rp.srm {D : va_G} {H : Heap} {h : AH} {a b : Nat} (hR : Rp D H h) : Rp D H (h.srm a b) := ⟨hR.1, hR.2.1, hR.2.2.1, fun q => ⟨fun i hi => (hR.2.2.2 q).1 i hi, fun ty hty => (hR.2.2.2 q).2 ty hty⟩⟩
theorem Pg.blind {D : va_G} {s0 : S0} {vs : List SV} {h : AH} : FrameBlind (Pg D s0 vs h) := fun a U g mk q => ⟨q.1, q.2.1, q.2.2.1, q.2.2.2⟩
theorem Pg.at {D : va_G} {s0 : S0} {s : State} {vs : List SV} {h : AH} {H : Heap} {locs : List Loc} (hds : DS s0 s) (hR : Rp D H h) (hlo : h.bs = bsOf s0) (hS : va_S (Lo s0) s.heap H locs) : ∀ U : State, U.heap = H → s.WarmedH U.vm → Pg D s0 vs h (vs.map tV).toArray U := by
  intro U hU hW
  refine ⟨rfl, by rw [hU]; exact hR, hlo, State.WarmedH.trans hds.1 hW, by rw [hU]; exact Nat.le_trans hds.2.1 hS.1, fun q hq => ?_⟩
  rw [hU, hS.2.1 q (Nat.lt_of_lt_of_le hq hds.2.1) (fun z => absurd z.1 (Nat.not_le.mpr hq))]
  exact hds.2.2 q hq
section ROWS5
variable {p : Program} {l : Launch} {e : Env} {R : Room} {s : State} {m : MethodId} {args : Array Value} {below : List Frame} {meth : Method} {c : Code} {D : va_G} {s0 : S0} {nL mc ms : Nat} {Z : State → Prop} {pc : Nat} {L : List (Nat × SV)} {st : List SV} {h : AH} {H : Heap} {locs : List Loc} {ls : Array Slot}
theorem x_ran {mc2 ms2 : Nat} {st0 rest : List Value} {Q2 : Option SV → AH → Prop} {a : Array Value} (hr : va_Run p l e R s m args below meth c H locs (mc - h.rc) (ms - h.rs) mc2 ms2 (F0 m pc ls st0) rest (Qg D s0 Q2 a) (Lo s0)) (hl : lv_has ls nL (L.map tL)) (hrest : rest = st.map tV) (hS : va_S (Lo s0) s.heap H locs) (h1 : h.rc ≤ mc) (h2 : h.rs ≤ ms) (g1 : mc2 ≤ h.rc) (g2 : ms2 ≤ h.rs) (hds : DS s0 s)
    (kk : ∀ v h', Q2 v h' → KK p l e R s m args below meth c D s0 nL mc ms Z (pc + 3) L (v.toList ++ st) (h'.srm (h.rc - mc2) (h.rs - ms2))) : W p l e R s m args below meth c H locs (mc - h.rc) (ms - h.rs) Z (F0 m pc ls st0) := by
  intro T hT X
  subst hrest
  obtain ⟨v, st₀, t, T', L2, h0, X', hL, e1, e2, ⟨w, h', hv, hq, hR', hlo', hz, hk⟩, stp⟩ := hr T hT X
  cases hv
  rw [h0] at hz hk
  have e3 : mc - h.rc + mc2 = mc - (h.rc - mc2) := by omega
  have e4 : ms - h.rs + ms2 = ms - (h.rs - ms2) := by omega
  rw [e3, e4] at X'
  obtain ⟨t2, a1, b1⟩ := kk w h' hq T'.heap (locs ++ L2) ls hl (by rw [e1]; exact hR'.srm) hlo'
    ⟨Nat.le_trans hS.1 (by rw [e1]; exact hz), fun q q1 q2 => by rw [e1, hk q (Nat.lt_of_lt_of_le q1 hS.1) q2]; exact hS.2.1 q q1 q2, fun q hq => by
      rcases List.mem_append.mp hq with h | h
      · exact hS.2.2 q h
      · exact hL q h⟩ (Nat.le_trans (Nat.sub_le _ _) h1) (Nat.le_trans (Nat.sub_le _ _) h2) T' rfl X'
  refine ⟨t2, stp t2 ?_, b1⟩
  rw [List.map_append] at a1
  have e5 : (w.map tV).toList = w.toList.map tV := by cases w <;> rfl
  rw [e5]
  exact a1
end ROWS5
section ROWS6
variable {l : Launch} {D : va_G} {s0 : S0} {cc : ByteArray} {own mn : String} {nL fr lw mc ms : Nat} {ret : Option FieldType} {Q : Option SV → AH → Prop} {K : KT}
variable {pc : Nat} {L : List (Nat × SV)} {h : AH}
theorem sum_tV (st : List SV) : ((st.map tV).map fun v => v.category).sum = (st.map wd).sum := by
  induction st with
  | nil => rfl
  | cons v st ih => rw [List.map_cons, List.map_cons, List.sum_cons, ih, List.map_cons, List.sum_cons, tV_cat]
/-- a call through an object -/
theorem x_callV (C : Cx l D s0 cc own mn nL fr lw mc ms ret Q K) (t : Nat) {index : Nat} (nxt : Nat) {y : MethodName} {b2 : ByteArray} {L2 : Nat} {r2 : Option FieldType} {fr2 lw2 mc2 ms2 : Nat} {CC : String} {r : Option Nat} (As st : List SV) {Q2 : Option SV → AH → Prop} (d : decode cc pc = .ok (.invokevirtual index, 3)) (hnx : pc + 3 = nxt)
    (hM : OKm l D s0 y b2 L2 r2 fr2 lw2 (vA r :: As) (h.srm mc2 ms2) Q2) (hle : mc2 ≤ h.rc ∧ ms2 ≤ h.rs) (q1 : Cond.methodLink own index y ∈ lw_all) (q2 : Cond.instanceMethod y ∈ lw_all) (q3 : Cond.selects CC y y ∈ lw_all) (q4 : Cond.initialized CC ∈ lw_all) (q5 : Cond.code y b2 L2 r2 ∈ lw_all)
    (hcl : (CL t).map (fun i => i.1) = some CC) (hd : y.cls = CC ∧ y.cls ≠ "java/lang/invoke/MethodHandle" ∧ y.cls ≠ "java/lang/invoke/VarHandle" ∧ (parseMethodDescriptor y.desc).map (fun d => d.parameters.length) = some As.length) (hroom : Nat.ble (fr2 + 1) fr = true ∧ Nat.ble (8 + (L2 + 11) + lw2) lw = true ∧ Nat.ble (st.map wd).sum 8 = true) (hn : nn h r t)
    (kk : ∀ v h', Q2 v h' → K nxt L (v.toList ++ st) (h'.srm (h.rc - mc2) (h.rs - ms2))) : K pc L (As.reverse ++ vA r :: st) h := by
  obtain ⟨p, e, R, s, m, args, below, meth, c, Z, hx, hb, hml, ho, hts, hds, hG, ⟨rf1, rf2, rf3, rf4⟩, hr, hz, rfl⟩ := C
  subst hnx
  obtain ⟨a, rfl, hkd⟩ := hn
  intro H locs ls hl hR hlo hS h1 h2
  obtain ⟨i, hi, hCC⟩ := Option.map_eq_some_iff.mp hcl
  have hcell : ∃ cellB : Cell, H[a]? = some cellB ∧ cellB.vm.isStatics = false ∧ s.vm.findClass CC = some cellB.cls := by
    obtain ⟨cell, c1, c2, c3, -⟩ := (hR.2.2.2 a).1 i (by rw [hkd]; exact hi)
    refine ⟨cell, c1, c3.2.1, ?_⟩
    rw [c2, ← hCC, hkd]
    exact (hds.kn hG hi).2.1
  have cw := cwV (R := R) (mc := mc2) (ms := ms2) (rm := { frames := fr2, cells := mc2, slots := ms2, locals := lw2 }) As.length hts (lw_V q1 q2 q3 q4 q5) rfl rfl rfl hd ⟨by rw [rf1]; exact Nat.le_of_ble_eq_true hroom.1, by rw [rf2]; exact Nat.le_of_ble_eq_true hroom.2.1⟩
  refine x_ran (va_runV (mc := mc2) (ms := ms2) (As := As.map tV) (rest := st.map tV) (b := a) (g := F0 m pc ls ((As.reverse ++ vA (some a) :: st).map tV)) ⟨hx, hb, hml, ho, hts⟩ hM cw ⟨Pg.blind, hcell, Pg.at hds hR.srm hlo hS⟩ rfl (List.length_map _) hl.1 ?_ (lv_room (by rw [sum_tV]; exact Nat.le_of_ble_eq_true hroom.2.2)) d ⟨by rw [rf3]; have := hle.1; omega, by rw [rf4]; have := hle.2; omega⟩) hl rfl hS h1 h2 hle.1 hle.2 hds kk
  show (As.reverse ++ vA (some a) :: st).map tV = (As.map tV).reverse ++ Value.ref a :: st.map tV
  rw [List.map_append, List.map_reverse]
  rfl
/-- a static call -/
theorem x_callS (C : Cx l D s0 cc own mn nL fr lw mc ms ret Q K) {index : Nat} (nxt : Nat) {y : MethodName} {b2 : ByteArray} {L2 : Nat} {r2 : Option FieldType} {fr2 lw2 mc2 ms2 : Nat} (As st : List SV) {Q2 : Option SV → AH → Prop} (d : decode cc pc = .ok (.invokestatic index, 3)) (hnx : pc + 3 = nxt)
    (hM : OKm l D s0 y b2 L2 r2 fr2 lw2 As (h.srm mc2 ms2) Q2) (hle : mc2 ≤ h.rc ∧ ms2 ≤ h.rs) (q1 : Cond.methodLink own index y ∈ lw_all) (q2 : Cond.static y ∈ lw_all) (q4 : Cond.initialized y.cls ∈ lw_all) (q5 : Cond.code y b2 L2 r2 ∈ lw_all)
    (hd : y.cls ≠ "java/lang/invoke/MethodHandle" ∧ y.cls ≠ "java/lang/invoke/VarHandle" ∧ (parseMethodDescriptor y.desc).map (fun d => d.parameters.length) = some As.length) (hroom : Nat.ble (fr2 + 1) fr = true ∧ Nat.ble (8 + (L2 + 11) + lw2) lw = true ∧ Nat.ble (st.map wd).sum 8 = true)
    (kk : ∀ v h', Q2 v h' → K nxt L (v.toList ++ st) (h'.srm (h.rc - mc2) (h.rs - ms2))) : K pc L (As.reverse ++ st) h := by
  obtain ⟨p, e, R, s, m, args, below, meth, c, Z, hx, hb, hml, ho, hts, hds, hG, ⟨rf1, rf2, rf3, rf4⟩, hr, hz, rfl⟩ := C
  subst hnx
  intro H locs ls hl hR hlo hS h1 h2
  have cw := va_cwS (R := R) (mc := mc2) (ms := ms2) (rm := { frames := fr2, cells := mc2, slots := ms2, locals := lw2 }) As.length hts (lw_S q1 q2 q4 q5) rfl rfl rfl hd ⟨by rw [rf1]; exact Nat.le_of_ble_eq_true hroom.1, by rw [rf2]; exact Nat.le_of_ble_eq_true hroom.2.1⟩
  refine x_ran (va_runS (mc := mc2) (ms := ms2) (As := As.map tV) (rest := st.map tV) (g := F0 m pc ls ((As.reverse ++ st).map tV)) ⟨hx, hb, hml, ho, hts⟩ hM cw ⟨Pg.blind, Pg.at hds hR.srm hlo hS⟩ rfl (List.length_map _) hl.1 ?_ (lv_room (by rw [sum_tV]; exact Nat.le_of_ble_eq_true hroom.2.2)) d ⟨by rw [rf3]; have := hle.1; omega, by rw [rf4]; have := hle.2; omega⟩) hl rfl hS h1 h2 hle.1 hle.2 hds kk
  show (As.reverse ++ st).map tV = (As.map tV).reverse ++ st.map tV
  rw [List.map_append, List.map_reverse]
end ROWS6
/-! THE TWIN: its state as a record -/
/-- its arrays in the order of their making: field, kind, length -/
def AL : List (Nat × Nat × Nat) := [(0, 40, 1000), (1, 40, 3816), (2, 40, 3816), (3, 43, 84), (4, 43, 84), (22, 40, 64), (23, 40, 32), (24, 40, 32), (25, 40, 32), (26, 40, 32), (28, 40, 8), (29, 40, 64), (30, 40, 8), (32, 40, 100), (34, 40, 4), (35, 40, 112), (36, 40, 8), (37, 40, 8), (38, 40, 4), (43, 40, 40), (44, 40, 40), (45, 40, 40), (46, 40, 40), (47, 40, 40), (48, 40, 40), (49, 40, 4), (56, 40, 320), (57, 40, 320), (58, 40, 320), (59, 40, 320), (60, 40, 320), (61, 40, 320), (62, 40, 320), (63, 40, 320), (64, 40, 3200), (65, 40, 3200), (66, 42, 320), (67, 42, 320), (68, 42, 320), (69, 42, 320), (70, 42, 320), (71, 42, 320), (73, 40, 64), (74, 40, 320)]
abbrev tNA : Nat := 44
def ttg (j : Nat) : Nat := ((AL[j]?).map (fun q => q.2.1)).getD 0
def tlen (j : Nat) : Nat := ((AL[j]?).map (fun q => q.2.2)).getD 0
def tix (j t : Nat) (i : Int32) : Prop := ttg j = t ∧ vp_in i (tlen j)
/-- scalars by field, longs by field, int arrays, long arrays by their places -/
def TS : Type := (Nat → Int32) × (Nat → Int64) × (Nat → Nat → Int32) × (Nat → Nat → Int64)
def TS.s (T : TS) : Nat → Int32 := T.1
def TS.w (T : TS) : Nat → Int64 := T.2.1
def TS.a (T : TS) : Nat → Nat → Int32 := T.2.2.1
def TS.l (T : TS) : Nat → Nat → Int64 := T.2.2.2
def up1 {α : Type} (f : Nat → α) (x : Nat) (v : α) : Nat → α := fun a => if a = x then v else f a
def TS.ss (T : TS) (F : Nat) (v : Int32) : TS := (up1 T.s F v, T.w, T.a, T.l)
def TS.sw (T : TS) (F : Nat) (v : Int64) : TS := (T.s, up1 T.w F v, T.a, T.l)
def TS.sa (T : TS) (j i : Nat) (v : Int32) : TS := (T.s, T.w, up2 T.a j i v, T.l)
def TS.sl (T : TS) (j i : Nat) (v : Int64) : TS := (T.s, T.w, T.a, up2 T.l j i v)
def TW (o : Nat) (h : AH) : Prop := h.kd o = (2, 0) ∧ ∀ j q, AL[j]? = some q → h.kd (o + 1 + j) = (q.2.1, q.2.2) ∧ h.fr (200 + q.1) o = some (o + 1 + j)
def tput (o : Nat) (T : TS) (h : AH) : AH := AH.mk h.kd (fun F a => if a = o then T.s F else h.fi F a) (fun F a => if a = o then T.w F else h.fl F a) h.fr
  (fun a i => if o < a ∧ a ≤ o + tNA then T.a (a - (o + 1)) i else h.ai a i) (fun a i => if o < a ∧ a ≤ o + tNA then T.l (a - (o + 1)) i else h.al a i) h.ar h.sz h.rc h.rs h.bs
theorem tput_fi (o F : Nat) (T : TS) (h : AH) : (tput o T h).fi F o = T.s F := if_pos rfl
theorem tput_fl (o F : Nat) (T : TS) (h : AH) : (tput o T h).fl F o = T.w F := if_pos rfl
theorem tput_ai {o j : Nat} (T : TS) (h : AH) (i : Nat) (hj : j < tNA) : (tput o T h).ai (o + 1 + j) i = T.a j i := by
  show (if o < o + 1 + j ∧ o + 1 + j ≤ o + tNA then T.a (o + 1 + j - (o + 1)) i else h.ai (o + 1 + j) i) = T.a j i
  rw [if_pos ⟨by omega, by omega⟩, Nat.add_sub_cancel_left]
theorem tput_al {o j : Nat} (T : TS) (h : AH) (i : Nat) (hj : j < tNA) : (tput o T h).al (o + 1 + j) i = T.l j i := by
  show (if o < o + 1 + j ∧ o + 1 + j ≤ o + tNA then T.l (o + 1 + j - (o + 1)) i else h.al (o + 1 + j) i) = T.l j i
  rw [if_pos ⟨by omega, by omega⟩, Nat.add_sub_cancel_left]
theorem AH.ext' {h g : AH} (e1 : h.kd = g.kd) (e2 : h.fi = g.fi) (e3 : h.fl = g.fl) (e4 : h.fr = g.fr) (e5 : h.ai = g.ai) (e6 : h.al = g.al) (e7 : h.ar = g.ar) (e8 : h.sz = g.sz) (e9 : h.rc = g.rc) (e10 : h.rs = g.rs) (e11 : h.bs = g.bs) : h = g := by
  show AH.mk h.kd h.fi h.fl h.fr h.ai h.al h.ar h.sz h.rc h.rs h.bs = AH.mk g.kd g.fi g.fl g.fr g.ai g.al g.ar g.sz g.rc g.rs g.bs
  rw [e1, e2, e3, e4, e5, e6, e7, e8, e9, e10, e11]
theorem tput_ss (o F : Nat) (v : Int32) (T : TS) (h : AH) : (tput o T h).sfi F o v = tput o (T.ss F v) h := by
  refine AH.ext' rfl ?_ rfl rfl rfl rfl rfl rfl rfl rfl rfl
  funext G a
  show (if G = F ∧ a = o then v else (if a = o then T.s G else h.fi G a)) = if a = o then (if G = F then v else T.s G) else h.fi G a
  by_cases h1 : a = o <;> by_cases h2 : G = F <;> simp [h1, h2]
theorem tput_sw (o F : Nat) (v : Int64) (T : TS) (h : AH) : (tput o T h).sfl F o v = tput o (T.sw F v) h := by
  refine AH.ext' rfl rfl ?_ rfl rfl rfl rfl rfl rfl rfl rfl
  funext G a
  show (if G = F ∧ a = o then v else (if a = o then T.w G else h.fl G a)) = if a = o then (if G = F then v else T.w G) else h.fl G a
  by_cases h1 : a = o <;> by_cases h2 : G = F <;> simp [h1, h2]
theorem tput_sa {o j : Nat} (i : Nat) (v : Int32) (T : TS) (h : AH) (hj : j < tNA) : (tput o T h).sai (o + 1 + j) i v = tput o (T.sa j i v) h := by
  refine AH.ext' rfl rfl rfl rfl ?_ rfl rfl rfl rfl rfl rfl
  funext a k
  show (if a = o + 1 + j ∧ k = i then v else (if o < a ∧ a ≤ o + tNA then T.a (a - (o + 1)) k else h.ai a k)) = if o < a ∧ a ≤ o + tNA then (if a - (o + 1) = j ∧ k = i then v else T.a (a - (o + 1)) k) else h.ai a k
  by_cases h1 : a = o + 1 + j
  · subst h1
    have h3 : o < o + 1 + j ∧ o + 1 + j ≤ o + tNA := ⟨by omega, by omega⟩
    rw [if_pos h3, if_pos h3, Nat.add_sub_cancel_left]
    by_cases h2 : k = i <;> simp [h2]
  · rw [if_neg (fun q => h1 q.1)]
    by_cases h3 : o < a ∧ a ≤ o + tNA
    · rw [if_pos h3, if_pos h3, if_neg (fun q => h1 (by omega))]
    · rw [if_neg h3, if_neg h3]
theorem tput_sl {o j : Nat} (i : Nat) (v : Int64) (T : TS) (h : AH) (hj : j < tNA) : (tput o T h).sal (o + 1 + j) i v = tput o (T.sl j i v) h := by
  refine AH.ext' rfl rfl rfl rfl rfl ?_ rfl rfl rfl rfl rfl
  funext a k
  show (if a = o + 1 + j ∧ k = i then v else (if o < a ∧ a ≤ o + tNA then T.l (a - (o + 1)) k else h.al a k)) = if o < a ∧ a ≤ o + tNA then (if a - (o + 1) = j ∧ k = i then v else T.l (a - (o + 1)) k) else h.al a k
  by_cases h1 : a = o + 1 + j
  · subst h1
    have h3 : o < o + 1 + j ∧ o + 1 + j ≤ o + tNA := ⟨by omega, by omega⟩
    rw [if_pos h3, if_pos h3, Nat.add_sub_cancel_left]
    by_cases h2 : k = i <;> simp [h2]
  · rw [if_neg (fun q => h1 q.1)]
    by_cases h3 : o < a ∧ a ≤ o + tNA
    · rw [if_pos h3, if_pos h3, if_neg (fun q => h1 (by omega))]
    · rw [if_neg h3, if_neg h3]
theorem ttg_some {j t : Nat} (h : ttg j = t) (ht : t ≠ 0) : ∃ q, AL[j]? = some q ∧ q.2.1 = t ∧ q.2.2 = tlen j := by
  unfold ttg at h
  unfold tlen
  cases hq : AL[j]? with
  | none => rw [hq] at h; exact absurd h.symm ht
  | some q => rw [hq] at h; exact ⟨q, rfl, h, rfl⟩
theorem AL_lt {j : Nat} {q : Nat × Nat × Nat} (h : AL[j]? = some q) : j < tNA := (List.getElem?_eq_some_iff.mp h).1
theorem tw_ix {o : Nat} {h : AH} (hT : TW o h) (T : TS) {j t : Nat} {i : Int32} (ht : t ≠ 0) (hi : tix j t i) : ix (tput o T h) (some (o + 1 + j)) t i ∧ j < tNA := by
  obtain ⟨q, h1, h2, h3⟩ := ttg_some hi.1 ht
  have h4 := (hT.2 j q h1).1
  refine ⟨⟨o + 1 + j, rfl, ?_, ?_⟩, AL_lt h1⟩
  · show (h.kd (o + 1 + j)).1 = t
    rw [h4, h2]
  · show vp_in i (h.kd (o + 1 + j)).2
    rw [h4, h3]; exact hi.2
abbrev TT : Type := Nat → List (Nat × SV) → List SV → TS → Prop
def Tx (l : Launch) (D : va_G) (s0 : S0) (o : Nat) (h : AH) (cc : ByteArray) (mn : String) (nL fr lw : Nat) (ret : Option FieldType) (Q : Option SV → TS → Prop) (K : TT) : Prop :=
  ∃ K0 : KT, Cx l D s0 cc RX1 mn nL fr lw h.rc h.rs ret (fun v h' => ∃ T, h' = tput o T h ∧ Q v T) K0 ∧ TW o h ∧ K = fun pc L st T => K0 pc L st (tput o T h)
def OKt (l : Launch) (D : va_G) (s0 : S0) (o : Nat) (y : MethodName) (cc : ByteArray) (nL : Nat) (ret : Option FieldType) (fr lw : Nat) (vs : List SV) (T : TS) (Q : Option SV → TS → Prop) : Prop :=
  ∀ h : AH, TW o h → OKm l D s0 y cc nL ret fr lw vs (tput o T h) (fun v h' => ∃ T', h' = tput o T' h ∧ Q v T')
theorem t_met {l : Launch} {D : va_G} {s0 : S0} (hG : G0 D s0) {o : Nat} {y : MethodName} {cc : ByteArray} {nL : Nat} {ret : Option FieldType} {fr lw : Nat} {mn : String} {vs : List SV} {L0 : List (Nat × SV)} {T : TS} {Q : Option SV → TS → Prop} (hown : y.cls = RX1) (hmn : y.name = mn) (hL : largs 0 vs = L0) (hlen : Nat.ble (vs.map wd).sum nL = true)
    (body : ∀ h K, Tx l D s0 o h cc mn nL fr lw ret Q K → K 0 L0 [] T) : OKt l D s0 o y cc nL ret fr lw vs T Q := by
  intro h hT
  exact x_met hG (by rw [hown]; decide) hown hmn hL hlen (fun K C => body h _ ⟨K, C, hT, rfl⟩)
def TI (Q : Int32 → TS → Prop) : Option SV → TS → Prop := fun v h => ∃ x, v = some (vI x) ∧ Q x h
def TJ (Q : Int64 → TS → Prop) : Option SV → TS → Prop := fun v h => ∃ x, v = some (vJ x) ∧ Q x h
def TV (Q : TS → Prop) : Option SV → TS → Prop := fun v h => v = none ∧ Q h
section TROWS
variable {l : Launch} {D : va_G} {s0 : S0} {o : Nat} {h : AH} {cc : ByteArray} {mn : String} {nL fr lw : Nat} {ret : Option FieldType} {Q : Option SV → TS → Prop} {K : TT}
variable {pc : Nat} {L : List (Nat × SV)} {st : List SV} {T : TS}
theorem t_b (C : Tx l D s0 o h cc mn nL fr lw ret Q K) {pc' : Nat} {L' : List (Nat × SV)} {st' : List SV} (ins : List (Instr × Nat)) (hd : Decs cc pc ins pc') (hp : psL nL ins L st = some (L', st')) (k : K pc' L' st' T) : K pc L st T := by
  obtain ⟨K0, C, hT, rfl⟩ := C
  exact x_b C ins hd hp k
theorem t_gI (C : Tx l D s0 o h cc mn nL fr lw ret Q K) (F : Nat) {index : Nat} (nxt : Nat) (d : decode cc pc = .ok (.getfield index, 3)) (hn : pc + 3 = nxt) (hk : Nat.blt (F - 200) 75 = true) (hF : 200 + (F - 200) = F) (hlink : Cond.fieldLink RX1 index (TX1 (F - 200)).1 (TX1 (F - 200)).2.1 (TX1 (F - 200)).2.2.1 ∈ lw_all) (hty : ∀ (h : AH) (G a : Nat), fval (tyX1 (F - 200)) h G a = vI (h.fi G a)) (k : K nxt L (vI (T.s F) :: st) T) : K pc L (vA (some o) :: st) T := by
  obtain ⟨K0, C, hT, rfl⟩ := C
  refine x_get C 2 (F - 200) d hn rfl hk hlink (v := vI (T.s F)) ?_ ⟨o, rfl, by show (h.kd o).1 = 2; rw [hT.1]⟩ k
  rw [show 100 * 2 + (F - 200) = F from hF, hty]
  exact congrArg vI (tput_fi o F T h)
theorem t_gJ (C : Tx l D s0 o h cc mn nL fr lw ret Q K) (F : Nat) {index : Nat} (nxt : Nat) (d : decode cc pc = .ok (.getfield index, 3)) (hn : pc + 3 = nxt) (hk : Nat.blt (F - 200) 75 = true) (hF : 200 + (F - 200) = F) (hlink : Cond.fieldLink RX1 index (TX1 (F - 200)).1 (TX1 (F - 200)).2.1 (TX1 (F - 200)).2.2.1 ∈ lw_all) (hty : ∀ (h : AH) (G a : Nat), fval (tyX1 (F - 200)) h G a = vJ (h.fl G a)) (k : K nxt L (vJ (T.w F) :: st) T) : K pc L (vA (some o) :: st) T := by
  obtain ⟨K0, C, hT, rfl⟩ := C
  refine x_get C 2 (F - 200) d hn rfl hk hlink (v := vJ (T.w F)) ?_ ⟨o, rfl, by show (h.kd o).1 = 2; rw [hT.1]⟩ k
  rw [show 100 * 2 + (F - 200) = F from hF, hty]
  exact congrArg vJ (tput_fl o F T h)
theorem t_gA (C : Tx l D s0 o h cc mn nL fr lw ret Q K) (F j : Nat) {q : Nat × Nat × Nat} {index : Nat} (nxt : Nat) (d : decode cc pc = .ok (.getfield index, 3)) (hn : pc + 3 = nxt) (hk : Nat.blt (F - 200) 75 = true) (hF : 200 + (F - 200) = F) (hj : AL[j]? = some q) (hq : 200 + q.1 = F) (hlink : Cond.fieldLink RX1 index (TX1 (F - 200)).1 (TX1 (F - 200)).2.1 (TX1 (F - 200)).2.2.1 ∈ lw_all) (hty : ∀ (h : AH) (G a : Nat), fval (tyX1 (F - 200)) h G a = vA (h.fr G a)) (k : K nxt L (vA (some (o + 1 + j)) :: st) T) : K pc L (vA (some o) :: st) T := by
  obtain ⟨K0, C, hT, rfl⟩ := C
  refine x_get C 2 (F - 200) d hn rfl hk hlink (v := vA (some (o + 1 + j))) ?_ ⟨o, rfl, by show (h.kd o).1 = 2; rw [hT.1]⟩ k
  rw [show 100 * 2 + (F - 200) = F from hF, hty]
  have h4 := (hT.2 j q hj).2
  rw [hq] at h4
  exact congrArg vA h4
theorem t_pI (C : Tx l D s0 o h cc mn nL fr lw ret Q K) (F : Nat) {index : Nat} {x : Int32} (nxt : Nat) (d : decode cc pc = .ok (.putfield index, 3)) (hn : pc + 3 = nxt) (hk : Nat.blt (F - 200) 75 = true) (hF : 200 + (F - 200) = F) (hfin : (TX1 (F - 200)).2.2.2 = false) (hlink : Cond.fieldLink RX1 index (TX1 (F - 200)).1 (TX1 (F - 200)).2.1 (TX1 (F - 200)).2.2.1 ∈ lw_all) (hty : ∀ (h : AH) (G a : Nat), fval (tyX1 (F - 200)) h G a = vI (h.fi G a)) (hnr : narrow (tyX1 (F - 200)) (.int x) = .int x) (hfit : fits (tyX1 (F - 200)) (.int x) = true)
    (k : ∀ T1, T1 = T.ss F x → K nxt L st T1) : K pc L (vI x :: vA (some o) :: st) T := by
  obtain ⟨K0, C, hT, rfl⟩ := C
  replace k := k _ rfl
  refine x_putG C 2 (F - 200) (h' := tput o (T.ss F x) h) d hn rfl hk hfin hlink ?_ hnr hfit ⟨o, rfl, by show (h.kd o).1 = 2; rw [hT.1]⟩ (Or.inl rfl) k
  rw [← tput_ss]
  have h1 := Pt.I (h := tput o T h) (a := o) (t := 2) (k := F - 200) (ty := tyX1) (x := x) hty
  rw [show 100 * 2 + (F - 200) = F from hF] at h1
  exact h1
theorem t_pJ (C : Tx l D s0 o h cc mn nL fr lw ret Q K) (F : Nat) {index : Nat} {x : Int64} (nxt : Nat) (d : decode cc pc = .ok (.putfield index, 3)) (hn : pc + 3 = nxt) (hk : Nat.blt (F - 200) 75 = true) (hF : 200 + (F - 200) = F) (hfin : (TX1 (F - 200)).2.2.2 = false) (hlink : Cond.fieldLink RX1 index (TX1 (F - 200)).1 (TX1 (F - 200)).2.1 (TX1 (F - 200)).2.2.1 ∈ lw_all) (hty : ∀ (h : AH) (G a : Nat), fval (tyX1 (F - 200)) h G a = vJ (h.fl G a)) (hnr : narrow (tyX1 (F - 200)) (.long x) = .long x) (hfit : fits (tyX1 (F - 200)) (.long x) = true)
    (k : ∀ T1, T1 = T.sw F x → K nxt L st T1) : K pc L (vJ x :: vA (some o) :: st) T := by
  obtain ⟨K0, C, hT, rfl⟩ := C
  replace k := k _ rfl
  refine x_putG C 2 (F - 200) (h' := tput o (T.sw F x) h) d hn rfl hk hfin hlink ?_ hnr hfit ⟨o, rfl, by show (h.kd o).1 = 2; rw [hT.1]⟩ (Or.inl rfl) k
  rw [← tput_sw]
  have h1 := Pt.J (h := tput o T h) (a := o) (t := 2) (k := F - 200) (ty := tyX1) (x := x) hty
  rw [show 100 * 2 + (F - 200) = F from hF] at h1
  exact h1
theorem t_iald (C : Tx l D s0 o h cc mn nL fr lw ret Q K) {j : Nat} {i : Int32} (nxt : Nat) (d : decode cc pc = .ok (.iaload, 1)) (hn : pc + 1 = nxt) (hi : tix j 40 i) (k : K nxt L (vI (T.a j (ni i)) :: st) T) : K pc L (vI i :: vA (some (o + 1 + j)) :: st) T := by
  obtain ⟨K0, C, hT, rfl⟩ := C
  obtain ⟨h1, h2⟩ := tw_ix hT T (by decide) hi
  refine x_iald C nxt d hn h1 ?_
  show K0 nxt L (vI ((tput o T h).ai (o + 1 + j) (ni i)) :: st) _
  rw [tput_ai T h _ h2]; exact k
theorem t_zald (C : Tx l D s0 o h cc mn nL fr lw ret Q K) {j : Nat} {i : Int32} (nxt : Nat) (d : decode cc pc = .ok (.baload, 1)) (hn : pc + 1 = nxt) (hi : tix j 42 i) (k : K nxt L (vI (T.a j (ni i)) :: st) T) : K pc L (vI i :: vA (some (o + 1 + j)) :: st) T := by
  obtain ⟨K0, C, hT, rfl⟩ := C
  obtain ⟨h1, h2⟩ := tw_ix hT T (by decide) hi
  refine x_zald C nxt d hn h1 ?_
  show K0 nxt L (vI ((tput o T h).ai (o + 1 + j) (ni i)) :: st) _
  rw [tput_ai T h _ h2]; exact k
theorem t_lald (C : Tx l D s0 o h cc mn nL fr lw ret Q K) {j : Nat} {i : Int32} (nxt : Nat) (d : decode cc pc = .ok (.laload, 1)) (hn : pc + 1 = nxt) (hi : tix j 43 i) (k : K nxt L (vJ (T.l j (ni i)) :: st) T) : K pc L (vI i :: vA (some (o + 1 + j)) :: st) T := by
  obtain ⟨K0, C, hT, rfl⟩ := C
  obtain ⟨h1, h2⟩ := tw_ix hT T (by decide) hi
  refine x_lald C nxt d hn h1 ?_
  show K0 nxt L (vJ ((tput o T h).al (o + 1 + j) (ni i)) :: st) _
  rw [tput_al T h _ h2]; exact k
theorem t_iast (C : Tx l D s0 o h cc mn nL fr lw ret Q K) {j : Nat} {i x : Int32} (nxt : Nat) (d : decode cc pc = .ok (.iastore, 1)) (hn : pc + 1 = nxt) (hi : tix j 40 i) (k : ∀ T1, T1 = T.sa j (ni i) x → K nxt L st T1) : K pc L (vI x :: vI i :: vA (some (o + 1 + j)) :: st) T := by
  obtain ⟨K0, C, hT, rfl⟩ := C
  replace k := k _ rfl
  obtain ⟨h1, h2⟩ := tw_ix hT T (by decide) hi
  refine x_iast C nxt d hn h1 (Or.inl rfl) ?_
  show K0 nxt L st ((tput o T h).sai (o + 1 + j) (ni i) x)
  rw [tput_sa _ _ T h h2]; exact k
theorem t_zast (C : Tx l D s0 o h cc mn nL fr lw ret Q K) {j : Nat} {i x : Int32} (nxt : Nat) (d : decode cc pc = .ok (.bastore, 1)) (hn : pc + 1 = nxt) (hi : tix j 42 i) (k : ∀ T1, T1 = T.sa j (ni i) (vp_nar .boolean x) → K nxt L st T1) : K pc L (vI x :: vI i :: vA (some (o + 1 + j)) :: st) T := by
  obtain ⟨K0, C, hT, rfl⟩ := C
  replace k := k _ rfl
  obtain ⟨h1, h2⟩ := tw_ix hT T (by decide) hi
  refine x_zast C nxt d hn h1 (Or.inl rfl) ?_
  show K0 nxt L st ((tput o T h).sai (o + 1 + j) (ni i) (vp_nar .boolean x))
  rw [tput_sa _ _ T h h2]; exact k
theorem t_last (C : Tx l D s0 o h cc mn nL fr lw ret Q K) {j : Nat} {i : Int32} {x : Int64} (nxt : Nat) (d : decode cc pc = .ok (.lastore, 1)) (hn : pc + 1 = nxt) (hi : tix j 43 i) (k : ∀ T1, T1 = T.sl j (ni i) x → K nxt L st T1) : K pc L (vJ x :: vI i :: vA (some (o + 1 + j)) :: st) T := by
  obtain ⟨K0, C, hT, rfl⟩ := C
  replace k := k _ rfl
  obtain ⟨h1, h2⟩ := tw_ix hT T (by decide) hi
  refine x_last C nxt d hn h1 (Or.inl rfl) ?_
  show K0 nxt L st ((tput o T h).sal (o + 1 + j) (ni i) x)
  rw [tput_sl _ _ T h h2]; exact k
theorem t_ldc (C : Tx l D s0 o h cc mn nL fr lw ret Q K) {index : Nat} {v : Int32} (nxt : Nat) (d : decode cc pc = .ok (.ldc index, 2)) (hn : pc + 2 = nxt) (hw : Cond.constant RX1 index v ∈ lw_all) (k : K nxt L (vI v :: st) T) : K pc L st T := by
  obtain ⟨K0, C, hT, rfl⟩ := C
  exact x_ldc C nxt d hn hw k
theorem t_ldc2 (C : Tx l D s0 o h cc mn nL fr lw ret Q K) {index : Nat} {v : Int64} (nxt : Nat) (d : decode cc pc = .ok (.ldc2_w index, 3)) (hn : pc + 3 = nxt) (hw : Cond.constantLong RX1 index v ∈ lw_all) (k : K nxt L (vJ v :: st) T) : K pc L st T := by
  obtain ⟨K0, C, hT, rfl⟩ := C
  exact x_ldc2 C nxt d hn hw k
theorem t_goto (C : Tx l D s0 o h cc mn nL fr lw ret Q K) {off : Int} (tgt : Nat) (d : decode cc pc = .ok (.goto off, 3)) (ht : (pc : Int) + off = (tgt : Int)) (k : K tgt L st T) : K pc L st T := by
  obtain ⟨K0, C, hT, rfl⟩ := C
  exact x_goto C tgt d ht k
theorem t_tabIn (C : Tx l D s0 o h cc mn nL fr lw ret Q K) {dflt lo hi : Int} {offs : Array Int} {len : Nat} {x v : Int32} {off : Int} (tgt : Nat) (d : decode cc pc = .ok (.tableswitch dflt lo hi offs, len)) (hv : x = v) (h1 : decide (v.toInt < lo) = false) (h2 : decide (hi < v.toInt) = false) (ho : offs[(v.toInt - lo).toNat]? = some off) (ht : (pc : Int) + off = (tgt : Int)) (k : K tgt L st T) : K pc L (vI x :: st) T := by
  obtain ⟨K0, C, hT, rfl⟩ := C
  exact x_tabIn C tgt d hv h1 h2 ho ht k
theorem t_tabOut (C : Tx l D s0 o h cc mn nL fr lw ret Q K) {dflt lo hi : Int} {offs : Array Int} {len : Nat} {x : Int32} (tgt : Nat) (d : decode cc pc = .ok (.tableswitch dflt lo hi offs, len)) (h1 : x.toInt < lo ∨ hi < x.toInt) (ht : (pc : Int) + dflt = (tgt : Int)) (k : K tgt L st T) : K pc L (vI x :: st) T := by
  obtain ⟨K0, C, hT, rfl⟩ := C
  exact x_tabOut C tgt d h1 ht k
theorem t_vret (C : Tx l D s0 o h cc mn nL fr lw none Q K) (d : decode cc pc = .ok (.return_, 1)) (hq : Q none T) : K pc L [] T := by
  obtain ⟨K0, C, hT, rfl⟩ := C
  exact x_vret C d ⟨T, rfl, hq⟩
theorem t_iret {x : Int32} (C : Tx l D s0 o h cc mn nL fr lw (some .int) Q K) (d : decode cc pc = .ok (.ireturn, 1)) (hq : Q (some (vI x)) T) : K pc L [vI x] T := by
  obtain ⟨K0, C, hT, rfl⟩ := C
  exact x_iret C d ⟨T, rfl, hq⟩
theorem t_zret {x : Int32} (C : Tx l D s0 o h cc mn nL fr lw (some .boolean) Q K) (d : decode cc pc = .ok (.ireturn, 1)) (hn : narrow .boolean (.int x) = .int x) (hq : Q (some (vI x)) T) : K pc L [vI x] T := by
  obtain ⟨K0, C, hT, rfl⟩ := C
  exact x_zret C d hn ⟨T, rfl, hq⟩
theorem t_lret {x : Int64} (C : Tx l D s0 o h cc mn nL fr lw (some .long) Q K) (d : decode cc pc = .ok (.lreturn, 1)) (hq : Q (some (vJ x)) T) : K pc L [vJ x] T := by
  obtain ⟨K0, C, hT, rfl⟩ := C
  exact x_lret C d ⟨T, rfl, hq⟩
theorem t_callV (C : Tx l D s0 o h cc mn nL fr lw ret Q K) {index : Nat} (nxt : Nat) {y : MethodName} {b2 : ByteArray} {L2 : Nat} {r2 : Option FieldType} {fr2 lw2 : Nat} (As st : List SV) {Q2 : Option SV → TS → Prop} (d : decode cc pc = .ok (.invokevirtual index, 3)) (hnx : pc + 3 = nxt)
    (hM : OKt l D s0 o y b2 L2 r2 fr2 lw2 (vA (some o) :: As) T Q2) (q1 : Cond.methodLink RX1 index y ∈ lw_all) (q2 : Cond.instanceMethod y ∈ lw_all) (q3 : Cond.selects RX1 y y ∈ lw_all) (q4 : Cond.initialized RX1 ∈ lw_all) (q5 : Cond.code y b2 L2 r2 ∈ lw_all)
    (hd : y.cls = RX1 ∧ y.cls ≠ "java/lang/invoke/MethodHandle" ∧ y.cls ≠ "java/lang/invoke/VarHandle" ∧ (parseMethodDescriptor y.desc).map (fun d => d.parameters.length) = some As.length) (hroom : Nat.ble (fr2 + 1) fr = true ∧ Nat.ble (8 + (L2 + 11) + lw2) lw = true ∧ Nat.ble (st.map wd).sum 8 = true)
    (kk : ∀ v T', Q2 v T' → K nxt L (v.toList ++ st) T') : K pc L (As.reverse ++ vA (some o) :: st) T := by
  obtain ⟨K0, C, hT, rfl⟩ := C
  refine x_callV C 2 nxt (mc2 := 0) (ms2 := 0) As st d hnx (hM (h.srm 0 0) hT) ⟨Nat.zero_le _, Nat.zero_le _⟩ q1 q2 q3 q4 q5 rfl hd hroom ⟨o, rfl, by show (h.kd o).1 = 2; rw [hT.1]⟩ ?_
  intro v h' hq
  obtain ⟨T', rfl, hq⟩ := hq
  exact kk v T' hq
theorem t_callS (C : Tx l D s0 o h cc mn nL fr lw ret Q K) {index : Nat} (nxt : Nat) {y : MethodName} {b2 : ByteArray} {L2 : Nat} {r2 : Option FieldType} {fr2 lw2 : Nat} (As st : List SV) {Q2 : Option SV → TS → Prop} (d : decode cc pc = .ok (.invokestatic index, 3)) (hnx : pc + 3 = nxt)
    (hM : OKt l D s0 o y b2 L2 r2 fr2 lw2 As T Q2) (q1 : Cond.methodLink RX1 index y ∈ lw_all) (q2 : Cond.static y ∈ lw_all) (q4 : Cond.initialized y.cls ∈ lw_all) (q5 : Cond.code y b2 L2 r2 ∈ lw_all)
    (hd : y.cls ≠ "java/lang/invoke/MethodHandle" ∧ y.cls ≠ "java/lang/invoke/VarHandle" ∧ (parseMethodDescriptor y.desc).map (fun d => d.parameters.length) = some As.length) (hroom : Nat.ble (fr2 + 1) fr = true ∧ Nat.ble (8 + (L2 + 11) + lw2) lw = true ∧ Nat.ble (st.map wd).sum 8 = true)
    (kk : ∀ v T', Q2 v T' → K nxt L (v.toList ++ st) T') : K pc L (As.reverse ++ st) T := by
  obtain ⟨K0, C, hT, rfl⟩ := C
  refine x_callS C nxt (mc2 := 0) (ms2 := 0) As st d hnx (hM (h.srm 0 0) hT) ⟨Nat.zero_le _, Nat.zero_le _⟩ q1 q2 q4 q5 hd hroom ?_
  intro v h' hq
  obtain ⟨T', rfl, hq⟩ := hq
  exact kk v T' hq
theorem t_icmp_eq (C : Tx l D s0 o h cc mn nL fr lw ret Q K) {x y : Int32} {off : Int} (tgt nxt : Nat) (d : decode cc pc = .ok (.if_icmp .eq off, 3)) (ht : (pc : Int) + off = (tgt : Int)) (hn : pc + 3 = nxt) (kt : x = y → K tgt L st T) (kf : ¬ x = y → K nxt L st T) : K pc L (vI y :: vI x :: st) T := by
  obtain ⟨K0, C, hT, rfl⟩ := C
  exact x_icmp_eq C tgt nxt d ht hn kt kf
theorem t_icmp_ne (C : Tx l D s0 o h cc mn nL fr lw ret Q K) {x y : Int32} {off : Int} (tgt nxt : Nat) (d : decode cc pc = .ok (.if_icmp .ne off, 3)) (ht : (pc : Int) + off = (tgt : Int)) (hn : pc + 3 = nxt) (kt : ¬ x = y → K tgt L st T) (kf : x = y → K nxt L st T) : K pc L (vI y :: vI x :: st) T := by
  obtain ⟨K0, C, hT, rfl⟩ := C
  exact x_icmp_ne C tgt nxt d ht hn kt kf
theorem t_icmp_lt (C : Tx l D s0 o h cc mn nL fr lw ret Q K) {x y : Int32} {off : Int} (tgt nxt : Nat) (d : decode cc pc = .ok (.if_icmp .lt off, 3)) (ht : (pc : Int) + off = (tgt : Int)) (hn : pc + 3 = nxt) (kt : x < y → K tgt L st T) (kf : ¬ x < y → K nxt L st T) : K pc L (vI y :: vI x :: st) T := by
  obtain ⟨K0, C, hT, rfl⟩ := C
  exact x_icmp_lt C tgt nxt d ht hn kt kf
theorem t_icmp_ge (C : Tx l D s0 o h cc mn nL fr lw ret Q K) {x y : Int32} {off : Int} (tgt nxt : Nat) (d : decode cc pc = .ok (.if_icmp .ge off, 3)) (ht : (pc : Int) + off = (tgt : Int)) (hn : pc + 3 = nxt) (kt : y ≤ x → K tgt L st T) (kf : ¬ y ≤ x → K nxt L st T) : K pc L (vI y :: vI x :: st) T := by
  obtain ⟨K0, C, hT, rfl⟩ := C
  exact x_icmp_ge C tgt nxt d ht hn kt kf
theorem t_icmp_gt (C : Tx l D s0 o h cc mn nL fr lw ret Q K) {x y : Int32} {off : Int} (tgt nxt : Nat) (d : decode cc pc = .ok (.if_icmp .gt off, 3)) (ht : (pc : Int) + off = (tgt : Int)) (hn : pc + 3 = nxt) (kt : y < x → K tgt L st T) (kf : ¬ y < x → K nxt L st T) : K pc L (vI y :: vI x :: st) T := by
  obtain ⟨K0, C, hT, rfl⟩ := C
  exact x_icmp_gt C tgt nxt d ht hn kt kf
theorem t_icmp_le (C : Tx l D s0 o h cc mn nL fr lw ret Q K) {x y : Int32} {off : Int} (tgt nxt : Nat) (d : decode cc pc = .ok (.if_icmp .le off, 3)) (ht : (pc : Int) + off = (tgt : Int)) (hn : pc + 3 = nxt) (kt : x ≤ y → K tgt L st T) (kf : ¬ x ≤ y → K nxt L st T) : K pc L (vI y :: vI x :: st) T := by
  obtain ⟨K0, C, hT, rfl⟩ := C
  exact x_icmp_le C tgt nxt d ht hn kt kf
theorem t_if_eq (C : Tx l D s0 o h cc mn nL fr lw ret Q K) {x : Int32} {off : Int} (tgt nxt : Nat) (d : decode cc pc = .ok (.ifCond .eq off, 3)) (ht : (pc : Int) + off = (tgt : Int)) (hn : pc + 3 = nxt) (kt : x = 0 → K tgt L st T) (kf : ¬ x = 0 → K nxt L st T) : K pc L (vI x :: st) T := by
  obtain ⟨K0, C, hT, rfl⟩ := C
  exact x_if_eq C tgt nxt d ht hn kt kf
theorem t_if_ne (C : Tx l D s0 o h cc mn nL fr lw ret Q K) {x : Int32} {off : Int} (tgt nxt : Nat) (d : decode cc pc = .ok (.ifCond .ne off, 3)) (ht : (pc : Int) + off = (tgt : Int)) (hn : pc + 3 = nxt) (kt : ¬ x = 0 → K tgt L st T) (kf : x = 0 → K nxt L st T) : K pc L (vI x :: st) T := by
  obtain ⟨K0, C, hT, rfl⟩ := C
  exact x_if_ne C tgt nxt d ht hn kt kf
theorem t_if_lt (C : Tx l D s0 o h cc mn nL fr lw ret Q K) {x : Int32} {off : Int} (tgt nxt : Nat) (d : decode cc pc = .ok (.ifCond .lt off, 3)) (ht : (pc : Int) + off = (tgt : Int)) (hn : pc + 3 = nxt) (kt : x < 0 → K tgt L st T) (kf : ¬ x < 0 → K nxt L st T) : K pc L (vI x :: st) T := by
  obtain ⟨K0, C, hT, rfl⟩ := C
  exact x_if_lt C tgt nxt d ht hn kt kf
theorem t_if_ge (C : Tx l D s0 o h cc mn nL fr lw ret Q K) {x : Int32} {off : Int} (tgt nxt : Nat) (d : decode cc pc = .ok (.ifCond .ge off, 3)) (ht : (pc : Int) + off = (tgt : Int)) (hn : pc + 3 = nxt) (kt : 0 ≤ x → K tgt L st T) (kf : ¬ 0 ≤ x → K nxt L st T) : K pc L (vI x :: st) T := by
  obtain ⟨K0, C, hT, rfl⟩ := C
  exact x_if_ge C tgt nxt d ht hn kt kf
theorem t_if_gt (C : Tx l D s0 o h cc mn nL fr lw ret Q K) {x : Int32} {off : Int} (tgt nxt : Nat) (d : decode cc pc = .ok (.ifCond .gt off, 3)) (ht : (pc : Int) + off = (tgt : Int)) (hn : pc + 3 = nxt) (kt : 0 < x → K tgt L st T) (kf : ¬ 0 < x → K nxt L st T) : K pc L (vI x :: st) T := by
  obtain ⟨K0, C, hT, rfl⟩ := C
  exact x_if_gt C tgt nxt d ht hn kt kf
theorem t_if_le (C : Tx l D s0 o h cc mn nL fr lw ret Q K) {x : Int32} {off : Int} (tgt nxt : Nat) (d : decode cc pc = .ok (.ifCond .le off, 3)) (ht : (pc : Int) + off = (tgt : Int)) (hn : pc + 3 = nxt) (kt : x ≤ 0 → K tgt L st T) (kf : ¬ x ≤ 0 → K nxt L st T) : K pc L (vI x :: st) T := by
  obtain ⟨K0, C, hT, rfl⟩ := C
  exact x_if_le C tgt nxt d ht hn kt kf
end TROWS
/-! loops and joins of a walk; rows that end in them -/
def tlp {σ : Type} (B : σ → TS → (σ → TS → Prop) → Prop) (s0 : σ) (T : TS) : Prop := ∃ I : Nat → σ → TS → Prop, (∃ n, I n s0 T) ∧ ∀ n s T, I n s T → B s T (fun s' T' => ∃ m, m < n ∧ I m s' T')
theorem tlp.out {σ : Type} {B : σ → TS → (σ → TS → Prop) → Prop} {s0 : σ} {T : TS} (h : tlp B s0 T) : ∃ I : Nat → σ → TS → Prop, (∃ n, I n s0 T) ∧ ∀ n s T, I n s T → B s T (fun s' T' => ∃ m, m < n ∧ I m s' T') := h
def tjn {α : Type} (F : (α → TS → Prop) → Prop) (P : α → TS → Prop) : Prop := ∃ J : α → TS → Prop, F J ∧ ∀ x T, J x T → P x T
theorem tjn.out {α : Type} {F : (α → TS → Prop) → Prop} {P : α → TS → Prop} (h : tjn F P) : ∃ J : α → TS → Prop, F J ∧ ∀ x T, J x T → P x T := h
def bz (x : Int32) : Prop := x = 0 ∨ x = 1
theorem bz_n {x : Int32} (h : bz x) : narrow .boolean (.int x) = .int x := by rcases h with rfl | rfl <;> rfl
theorem bz_f {x : Int32} (h : bz x) : fits .boolean (.int x) = true := by rcases h with rfl | rfl <;> rfl
theorem lo_nil {x : Int} : ∀ q ∈ ([] : List (Int × Int)), ¬ x = q.1 := fun _ h => nomatch h
theorem lo_cons {x a o : Int} {l : List (Int × Int)} (h : ¬ x = a) (t : ∀ q ∈ l, ¬ x = q.1) : ∀ q ∈ (a, o) :: l, ¬ x = q.1 := fun q hq => (List.mem_cons.mp hq).elim (fun e => by rw [e]; exact h) (t q)
theorem lo_off {x d : Int} : ∀ (l : List (Int × Int)), (∀ q ∈ l, ¬ x = q.1) → Op.lookupswitch.offset l d x = d
  | [], _ => rfl
  | q :: l, h => by
    unfold Op.lookupswitch.offset
    have h1 := h q List.mem_cons_self
    have ih := lo_off (d := d) l (fun r hr => h r (List.mem_cons_of_mem _ hr))
    simp [h1, ih]
    try (intro h2; exact absurd h2 h1)
    try (intro h2; exact absurd h2.symm h1)
theorem x_sub {l : Launch} {D : va_G} {s0 : S0} {cc : ByteArray} {own mn : String} {nL fr lw mc ms : Nat} {ret : Option FieldType} {Q : Option SV → AH → Prop} {K : KT} {pc : Nat} {L L' : List (Nat × SV)} {st : List SV} {h : AH} (C : Cx l D s0 cc own mn nL fr lw mc ms ret Q K) (is : List Nat) (hs : is.map (fun i => L[i]?) = L'.map some) (k : K pc L' st h) : K pc L st h := by
  obtain ⟨p, e, R, s, m, args, below, meth, c, Z, hx, hb, hml, ho, hts, hds, hG, hRm, hr, hz, rfl⟩ := C
  intro H locs ls hl hR hlo hS h1 h2
  refine k H locs ls ⟨hl.1, hl.2.1, fun q hq => ?_⟩ hR hlo hS h1 h2
  obtain ⟨q0, hq0, rfl⟩ := List.mem_map.mp hq
  have h3 : some q0 ∈ is.map (fun i => L[i]?) := by rw [hs]; exact List.mem_map.mpr ⟨q0, hq0, rfl⟩
  obtain ⟨i, -, hi⟩ := List.mem_map.mp h3
  exact hl.2.2 (tL q0) (List.mem_map.mpr ⟨q0, List.mem_of_getElem? hi, rfl⟩)
theorem x_lookIn {l : Launch} {D : va_G} {s0 : S0} {cc : ByteArray} {own mn : String} {nL fr lw mc ms : Nat} {ret : Option FieldType} {Q : Option SV → AH → Prop} {K : KT} {pc : Nat} {L : List (Nat × SV)} {st : List SV} {h : AH} (C : Cx l D s0 cc own mn nL fr lw mc ms ret Q K) {dflt : Int} {ps : Array (Int × Int)} {len : Nat} {x v : Int32} {off : Int} (tgt : Nat) (d : decode cc pc = .ok (.lookupswitch dflt ps, len)) (hv : x = v) (hp : (ps.toList.zip (ps.toList.drop 1)).all (fun (a, next) => a.1 < next.1) = true) (ho : Op.lookupswitch.offset ps.toList dflt v.toInt = off) (ht : (pc : Int) + off = (tgt : Int)) (k : K tgt L st h) : K pc L (vI x :: st) h := by
  obtain ⟨p, e, R, s, m, args, below, meth, c, Z, hx, hb, hml, ho', hts, hds, hG, hRm, hr, hz, rfl⟩ := C
  subst hv
  intro H locs ls hl hR hlo hS g1 g2
  exact lv_lookup hx hb d hp ho ht (k H locs ls hl hR hlo hS g1 g2)
theorem x_lookOut {l : Launch} {D : va_G} {s0 : S0} {cc : ByteArray} {own mn : String} {nL fr lw mc ms : Nat} {ret : Option FieldType} {Q : Option SV → AH → Prop} {K : KT} {pc : Nat} {L : List (Nat × SV)} {st : List SV} {h : AH} (C : Cx l D s0 cc own mn nL fr lw mc ms ret Q K) {dflt : Int} {ps : Array (Int × Int)} {len : Nat} {x : Int32} (tgt : Nat) (d : decode cc pc = .ok (.lookupswitch dflt ps, len)) (hp : (ps.toList.zip (ps.toList.drop 1)).all (fun (a, next) => a.1 < next.1) = true) (ho : ∀ q ∈ ps.toList, ¬ x.toInt = q.1) (ht : (pc : Int) + dflt = (tgt : Int)) (k : K tgt L st h) : K pc L (vI x :: st) h := by
  obtain ⟨p, e, R, s, m, args, below, meth, c, Z, hx, hb, hml, ho', hts, hds, hG, hRm, hr, hz, rfl⟩ := C
  intro H locs ls hl hR hlo hS g1 g2
  exact lv_lookup hx hb d hp (lo_off _ ho) ht (k H locs ls hl hR hlo hS g1 g2)
section TROWS2
variable {l : Launch} {D : va_G} {s0 : S0} {o : Nat} {h : AH} {cc : ByteArray} {mn : String} {nL fr lw : Nat} {ret : Option FieldType} {Q : Option SV → TS → Prop} {K : TT}
variable {pc : Nat} {L L' : List (Nat × SV)} {st : List SV} {T : TS}
theorem t_sub (C : Tx l D s0 o h cc mn nL fr lw ret Q K) (is : List Nat) (hs : is.map (fun i => L[i]?) = L'.map some) (k : K pc L' st T) : K pc L st T := by
  obtain ⟨K0, C, hT, rfl⟩ := C
  exact x_sub C is hs k
theorem t_lookIn (C : Tx l D s0 o h cc mn nL fr lw ret Q K) {dflt : Int} {ps : Array (Int × Int)} {len : Nat} {x v : Int32} {off : Int} (tgt : Nat) (d : decode cc pc = .ok (.lookupswitch dflt ps, len)) (hv : x = v) (hp : (ps.toList.zip (ps.toList.drop 1)).all (fun (a, next) => a.1 < next.1) = true) (ho : Op.lookupswitch.offset ps.toList dflt v.toInt = off) (ht : (pc : Int) + off = (tgt : Int)) (k : K tgt L st T) : K pc L (vI x :: st) T := by
  obtain ⟨K0, C, hT, rfl⟩ := C
  exact x_lookIn C tgt d hv hp ho ht k
theorem t_lookOut (C : Tx l D s0 o h cc mn nL fr lw ret Q K) {dflt : Int} {ps : Array (Int × Int)} {len : Nat} {x : Int32} (tgt : Nat) (d : decode cc pc = .ok (.lookupswitch dflt ps, len)) (hp : (ps.toList.zip (ps.toList.drop 1)).all (fun (a, next) => a.1 < next.1) = true) (ho : ∀ q ∈ ps.toList, ¬ x.toInt = q.1) (ht : (pc : Int) + dflt = (tgt : Int)) (k : K tgt L st T) : K pc L (vI x :: st) T := by
  obtain ⟨K0, C, hT, rfl⟩ := C
  exact x_lookOut C tgt d hp ho ht k
theorem t_callVI (C : Tx l D s0 o h cc mn nL fr lw ret Q K) {index : Nat} (nxt : Nat) {y : MethodName} {b2 : ByteArray} {L2 : Nat} {r2 : Option FieldType} {fr2 lw2 : Nat} (As st : List SV) {Q2 : Int32 → TS → Prop} (d : decode cc pc = .ok (.invokevirtual index, 3)) (hnx : pc + 3 = nxt)
    (hM : OKt l D s0 o y b2 L2 r2 fr2 lw2 (vA (some o) :: As) T (TI Q2)) (q1 : Cond.methodLink RX1 index y ∈ lw_all) (q2 : Cond.instanceMethod y ∈ lw_all) (q3 : Cond.selects RX1 y y ∈ lw_all) (q4 : Cond.initialized RX1 ∈ lw_all) (q5 : Cond.code y b2 L2 r2 ∈ lw_all)
    (hd : y.cls = RX1 ∧ y.cls ≠ "java/lang/invoke/MethodHandle" ∧ y.cls ≠ "java/lang/invoke/VarHandle" ∧ (parseMethodDescriptor y.desc).map (fun d => d.parameters.length) = some As.length) (hroom : Nat.ble (fr2 + 1) fr = true ∧ Nat.ble (8 + (L2 + 11) + lw2) lw = true ∧ Nat.ble (st.map wd).sum 8 = true)
    (kk : ∀ x T', Q2 x T' → K nxt L (vI x :: st) T') : K pc L (As.reverse ++ vA (some o) :: st) T := by
  refine t_callV C nxt As st d hnx hM q1 q2 q3 q4 q5 hd hroom ?_
  intro v T' hq
  obtain ⟨x, rfl, hq⟩ := hq
  exact kk x T' hq
theorem t_callSI (C : Tx l D s0 o h cc mn nL fr lw ret Q K) {index : Nat} (nxt : Nat) {y : MethodName} {b2 : ByteArray} {L2 : Nat} {r2 : Option FieldType} {fr2 lw2 : Nat} (As st : List SV) {Q2 : Int32 → TS → Prop} (d : decode cc pc = .ok (.invokestatic index, 3)) (hnx : pc + 3 = nxt)
    (hM : OKt l D s0 o y b2 L2 r2 fr2 lw2 As T (TI Q2)) (q1 : Cond.methodLink RX1 index y ∈ lw_all) (q2 : Cond.static y ∈ lw_all) (q4 : Cond.initialized y.cls ∈ lw_all) (q5 : Cond.code y b2 L2 r2 ∈ lw_all)
    (hd : y.cls ≠ "java/lang/invoke/MethodHandle" ∧ y.cls ≠ "java/lang/invoke/VarHandle" ∧ (parseMethodDescriptor y.desc).map (fun d => d.parameters.length) = some As.length) (hroom : Nat.ble (fr2 + 1) fr = true ∧ Nat.ble (8 + (L2 + 11) + lw2) lw = true ∧ Nat.ble (st.map wd).sum 8 = true)
    (kk : ∀ x T', Q2 x T' → K nxt L (vI x :: st) T') : K pc L (As.reverse ++ st) T := by
  refine t_callS C nxt As st d hnx hM q1 q2 q4 q5 hd hroom ?_
  intro v T' hq
  obtain ⟨x, rfl, hq⟩ := hq
  exact kk x T' hq
theorem t_callVJ (C : Tx l D s0 o h cc mn nL fr lw ret Q K) {index : Nat} (nxt : Nat) {y : MethodName} {b2 : ByteArray} {L2 : Nat} {r2 : Option FieldType} {fr2 lw2 : Nat} (As st : List SV) {Q2 : Int64 → TS → Prop} (d : decode cc pc = .ok (.invokevirtual index, 3)) (hnx : pc + 3 = nxt)
    (hM : OKt l D s0 o y b2 L2 r2 fr2 lw2 (vA (some o) :: As) T (TJ Q2)) (q1 : Cond.methodLink RX1 index y ∈ lw_all) (q2 : Cond.instanceMethod y ∈ lw_all) (q3 : Cond.selects RX1 y y ∈ lw_all) (q4 : Cond.initialized RX1 ∈ lw_all) (q5 : Cond.code y b2 L2 r2 ∈ lw_all)
    (hd : y.cls = RX1 ∧ y.cls ≠ "java/lang/invoke/MethodHandle" ∧ y.cls ≠ "java/lang/invoke/VarHandle" ∧ (parseMethodDescriptor y.desc).map (fun d => d.parameters.length) = some As.length) (hroom : Nat.ble (fr2 + 1) fr = true ∧ Nat.ble (8 + (L2 + 11) + lw2) lw = true ∧ Nat.ble (st.map wd).sum 8 = true)
    (kk : ∀ x T', Q2 x T' → K nxt L (vJ x :: st) T') : K pc L (As.reverse ++ vA (some o) :: st) T := by
  refine t_callV C nxt As st d hnx hM q1 q2 q3 q4 q5 hd hroom ?_
  intro v T' hq
  obtain ⟨x, rfl, hq⟩ := hq
  exact kk x T' hq
theorem t_callSJ (C : Tx l D s0 o h cc mn nL fr lw ret Q K) {index : Nat} (nxt : Nat) {y : MethodName} {b2 : ByteArray} {L2 : Nat} {r2 : Option FieldType} {fr2 lw2 : Nat} (As st : List SV) {Q2 : Int64 → TS → Prop} (d : decode cc pc = .ok (.invokestatic index, 3)) (hnx : pc + 3 = nxt)
    (hM : OKt l D s0 o y b2 L2 r2 fr2 lw2 As T (TJ Q2)) (q1 : Cond.methodLink RX1 index y ∈ lw_all) (q2 : Cond.static y ∈ lw_all) (q4 : Cond.initialized y.cls ∈ lw_all) (q5 : Cond.code y b2 L2 r2 ∈ lw_all)
    (hd : y.cls ≠ "java/lang/invoke/MethodHandle" ∧ y.cls ≠ "java/lang/invoke/VarHandle" ∧ (parseMethodDescriptor y.desc).map (fun d => d.parameters.length) = some As.length) (hroom : Nat.ble (fr2 + 1) fr = true ∧ Nat.ble (8 + (L2 + 11) + lw2) lw = true ∧ Nat.ble (st.map wd).sum 8 = true)
    (kk : ∀ x T', Q2 x T' → K nxt L (vJ x :: st) T') : K pc L (As.reverse ++ st) T := by
  refine t_callS C nxt As st d hnx hM q1 q2 q4 q5 hd hroom ?_
  intro v T' hq
  obtain ⟨x, rfl, hq⟩ := hq
  exact kk x T' hq
theorem t_callVV (C : Tx l D s0 o h cc mn nL fr lw ret Q K) {index : Nat} (nxt : Nat) {y : MethodName} {b2 : ByteArray} {L2 : Nat} {r2 : Option FieldType} {fr2 lw2 : Nat} (As st : List SV) {Q2 : TS → Prop} (d : decode cc pc = .ok (.invokevirtual index, 3)) (hnx : pc + 3 = nxt)
    (hM : OKt l D s0 o y b2 L2 r2 fr2 lw2 (vA (some o) :: As) T (TV Q2)) (q1 : Cond.methodLink RX1 index y ∈ lw_all) (q2 : Cond.instanceMethod y ∈ lw_all) (q3 : Cond.selects RX1 y y ∈ lw_all) (q4 : Cond.initialized RX1 ∈ lw_all) (q5 : Cond.code y b2 L2 r2 ∈ lw_all)
    (hd : y.cls = RX1 ∧ y.cls ≠ "java/lang/invoke/MethodHandle" ∧ y.cls ≠ "java/lang/invoke/VarHandle" ∧ (parseMethodDescriptor y.desc).map (fun d => d.parameters.length) = some As.length) (hroom : Nat.ble (fr2 + 1) fr = true ∧ Nat.ble (8 + (L2 + 11) + lw2) lw = true ∧ Nat.ble (st.map wd).sum 8 = true)
    (kk : ∀ T', Q2 T' → K nxt L st T') : K pc L (As.reverse ++ vA (some o) :: st) T := by
  refine t_callV C nxt As st d hnx hM q1 q2 q3 q4 q5 hd hroom ?_
  intro v T' hq
  obtain ⟨rfl, hq⟩ := hq
  exact kk T' hq
theorem t_callSV (C : Tx l D s0 o h cc mn nL fr lw ret Q K) {index : Nat} (nxt : Nat) {y : MethodName} {b2 : ByteArray} {L2 : Nat} {r2 : Option FieldType} {fr2 lw2 : Nat} (As st : List SV) {Q2 : TS → Prop} (d : decode cc pc = .ok (.invokestatic index, 3)) (hnx : pc + 3 = nxt)
    (hM : OKt l D s0 o y b2 L2 r2 fr2 lw2 As T (TV Q2)) (q1 : Cond.methodLink RX1 index y ∈ lw_all) (q2 : Cond.static y ∈ lw_all) (q4 : Cond.initialized y.cls ∈ lw_all) (q5 : Cond.code y b2 L2 r2 ∈ lw_all)
    (hd : y.cls ≠ "java/lang/invoke/MethodHandle" ∧ y.cls ≠ "java/lang/invoke/VarHandle" ∧ (parseMethodDescriptor y.desc).map (fun d => d.parameters.length) = some As.length) (hroom : Nat.ble (fr2 + 1) fr = true ∧ Nat.ble (8 + (L2 + 11) + lw2) lw = true ∧ Nat.ble (st.map wd).sum 8 = true)
    (kk : ∀ T', Q2 T' → K nxt L st T') : K pc L (As.reverse ++ st) T := by
  refine t_callS C nxt As st d hnx hM q1 q2 q4 q5 hd hroom ?_
  intro v T' hq
  obtain ⟨rfl, hq⟩ := hq
  exact kk T' hq
end TROWS2
theorem x_mmax {l : Launch} {D : va_G} {s0 : S0} {cc : ByteArray} {own mn : String} {nL fr lw mc ms : Nat} {ret : Option FieldType} {Q : Option SV → AH → Prop} {K : KT} {pc : Nat} {L : List (Nat × SV)} {h : AH} (C : Cx l D s0 cc own mn nL fr lw mc ms ret Q K) {index : Nat} (nxt : Nat) (st : List SV) {x y : Int32} (d : decode cc pc = .ok (.invokestatic index, 3)) (hn : pc + 3 = nxt) (q1 : Cond.methodLink own index Lib.Math.max.name ∈ lw_all) (q2 : Cond.static Lib.Math.max.name ∈ lw_all) (q3 : Cond.initialized "java/lang/Math" ∈ lw_all) (q4 : Cond.code Lib.Math.max.name Lib.Math.max.code 2 (some .int) ∈ lw_all)
    (hroom : Nat.ble 1 fr = true ∧ Nat.ble ((st.map wd).sum + 13) lw = true) (k : K nxt L (vI (if x < y then y else x) :: st) h) : K pc L (vI y :: vI x :: st) h := by
  obtain ⟨p, e, R, s, m, args, below, meth, c, Z, hx, hb, hml, ho, hts, hds, hG, ⟨rf1, rf2, rf3, rf4⟩, hr, hz, rfl⟩ := C
  subst hn
  intro H locs ls hl hR hlo hS h1 h2
  exact va_mmax hx hb (hml.trans hl.1.symm) ho (hts _ q1) (hts _ q2) (hts _ q3) (hts _ q4) (by rw [rf1]; exact Nat.le_of_ble_eq_true hroom.1) (by rw [sum_tV, rf2]; exact Nat.le_of_ble_eq_true hroom.2) (by rw [rf3]; exact Nat.sub_le _ _) (by rw [rf4]; exact Nat.sub_le _ _) d (k H locs ls hl hR hlo hS h1 h2)
theorem t_mmax {l : Launch} {D : va_G} {s0 : S0} {o : Nat} {h : AH} {cc : ByteArray} {mn : String} {nL fr lw : Nat} {ret : Option FieldType} {Q : Option SV → TS → Prop} {K : TT} {pc : Nat} {L : List (Nat × SV)} {T : TS} (C : Tx l D s0 o h cc mn nL fr lw ret Q K) {index : Nat} (nxt : Nat) (st : List SV) {x y : Int32} (d : decode cc pc = .ok (.invokestatic index, 3)) (hn : pc + 3 = nxt) (q1 : Cond.methodLink RX1 index Lib.Math.max.name ∈ lw_all) (q2 : Cond.static Lib.Math.max.name ∈ lw_all) (q3 : Cond.initialized "java/lang/Math" ∈ lw_all) (q4 : Cond.code Lib.Math.max.name Lib.Math.max.code 2 (some .int) ∈ lw_all)
    (hroom : Nat.ble 1 fr = true ∧ Nat.ble ((st.map wd).sum + 13) lw = true) (k : K nxt L (vI (if x < y then y else x) :: st) T) : K pc L (vI y :: vI x :: st) T := by
  obtain ⟨K0, C, hT, rfl⟩ := C
  exact x_mmax C nxt st d hn q1 q2 q3 q4 hroom k
theorem x_mmin {l : Launch} {D : va_G} {s0 : S0} {cc : ByteArray} {own mn : String} {nL fr lw mc ms : Nat} {ret : Option FieldType} {Q : Option SV → AH → Prop} {K : KT} {pc : Nat} {L : List (Nat × SV)} {h : AH} (C : Cx l D s0 cc own mn nL fr lw mc ms ret Q K) {index : Nat} (nxt : Nat) (st : List SV) {x y : Int32} (d : decode cc pc = .ok (.invokestatic index, 3)) (hn : pc + 3 = nxt) (q1 : Cond.methodLink own index Lib.Math.min.name ∈ lw_all) (q2 : Cond.static Lib.Math.min.name ∈ lw_all) (q3 : Cond.initialized "java/lang/Math" ∈ lw_all) (q4 : Cond.code Lib.Math.min.name Lib.Math.min.code 2 (some .int) ∈ lw_all)
    (hroom : Nat.ble 1 fr = true ∧ Nat.ble ((st.map wd).sum + 13) lw = true) (k : K nxt L (vI (if y < x then y else x) :: st) h) : K pc L (vI y :: vI x :: st) h := by
  obtain ⟨p, e, R, s, m, args, below, meth, c, Z, hx, hb, hml, ho, hts, hds, hG, ⟨rf1, rf2, rf3, rf4⟩, hr, hz, rfl⟩ := C
  subst hn
  intro H locs ls hl hR hlo hS h1 h2
  exact va_mmin hx hb (hml.trans hl.1.symm) ho (hts _ q1) (hts _ q2) (hts _ q3) (hts _ q4) (by rw [rf1]; exact Nat.le_of_ble_eq_true hroom.1) (by rw [sum_tV, rf2]; exact Nat.le_of_ble_eq_true hroom.2) (by rw [rf3]; exact Nat.sub_le _ _) (by rw [rf4]; exact Nat.sub_le _ _) d (k H locs ls hl hR hlo hS h1 h2)
theorem t_mmin {l : Launch} {D : va_G} {s0 : S0} {o : Nat} {h : AH} {cc : ByteArray} {mn : String} {nL fr lw : Nat} {ret : Option FieldType} {Q : Option SV → TS → Prop} {K : TT} {pc : Nat} {L : List (Nat × SV)} {T : TS} (C : Tx l D s0 o h cc mn nL fr lw ret Q K) {index : Nat} (nxt : Nat) (st : List SV) {x y : Int32} (d : decode cc pc = .ok (.invokestatic index, 3)) (hn : pc + 3 = nxt) (q1 : Cond.methodLink RX1 index Lib.Math.min.name ∈ lw_all) (q2 : Cond.static Lib.Math.min.name ∈ lw_all) (q3 : Cond.initialized "java/lang/Math" ∈ lw_all) (q4 : Cond.code Lib.Math.min.name Lib.Math.min.code 2 (some .int) ∈ lw_all)
    (hroom : Nat.ble 1 fr = true ∧ Nat.ble ((st.map wd).sum + 13) lw = true) (k : K nxt L (vI (if y < x then y else x) :: st) T) : K pc L (vI y :: vI x :: st) T := by
  obtain ⟨K0, C, hT, rfl⟩ := C
  exact x_mmin C nxt st d hn q1 q2 q3 q4 hroom k
