/-! plain: uo -/
set_option maxRecDepth 100000
section
/-! LAW 1: a heap of two objects: the component's view g, the twin's region (the cells m .. m + 44) -/
def inH (m a : Nat) : Bool := Nat.ble m a && Nat.ble a (m + 44)
theorem inH_iff {m a : Nat} : inH m a = true ↔ m ≤ a ∧ a ≤ m + 44 := by
  unfold inH
  rw [Bool.and_eq_true, Nat.ble_eq, Nat.ble_eq]
def sH (s0 : S0) (m : Nat) : S0 := (s0.1, inH m)
/-- the twin's fields that hold rows -/
def frI (F : Nat) : Option Nat := (List.range 44).find? (fun j => match AL[j]? with
  | some q => Nat.beq (200 + q.1) F
  | none => false)
def frT (m F : Nat) : Option Nat := (frI F).map (fun j => m + 1 + j)
theorem frI_at : ∀ j : Fin 44, ∀ q, AL[j.val]? = some q → frI (200 + q.1) = some j.val := by
  intro j q hq
  have h1 : ∀ j : Fin 44, (AL[j.val]?).map (fun q => frI (200 + q.1)) = some (some j.val) := by decide +kernel
  have h2 := h1 j
  rw [hq] at h2
  exact Option.some.inj h2
theorem frT_at {m j : Nat} {q : Nat × Nat × Nat} (h : AL[j]? = some q) : frT m (200 + q.1) = some (m + 1 + j) := by
  unfold frT
  rw [frI_at ⟨j, AL_lt h⟩ q h]
  rfl
/-- the whole heap but for what the twin's cells hold -/
def bas (s0 : S0) (m : Nat) (g : AH) : AH := AH.mk (fun a => if inH m a = true then (if a = m then (2, 0) else (ttg (a - (m + 1)), tlen (a - (m + 1)))) else g.kd a) (fun F a => if inH m a = true then 0 else g.fi F a) (fun F a => if inH m a = true then 0 else g.fl F a)
  (fun F a => if inH m a = true then (if a = m then frT m F else none) else g.fr F a) (fun a i => if inH m a = true then 0 else g.ai a i) (fun a i => if inH m a = true then 0 else g.al a i) (fun a i => if inH m a = true then none else g.ar a i) g.sz g.rc g.rs (bsOf s0)
def mix (s0 : S0) (m : Nat) (T : TS) (g : AH) : AH := tput m T (bas s0 m g)
theorem inH_m (m : Nat) : inH m m = true := inH_iff.mpr ⟨Nat.le_refl _, by omega⟩
theorem inH_j {m j : Nat} (h : j < 44) : inH m (m + 1 + j) = true := inH_iff.mpr ⟨by omega, by omega⟩
theorem bas_tw (s0 : S0) (m : Nat) (g : AH) : TW m (bas s0 m g) := by
  refine ⟨?_, fun j q hq => ⟨?_, ?_⟩⟩
  · show (if inH m m = true then (if m = m then (2, 0) else _) else _) = _
    rw [if_pos (inH_m m), if_pos rfl]
  · have hj := AL_lt hq
    show (if inH m (m + 1 + j) = true then (if m + 1 + j = m then (2, 0) else (ttg (m + 1 + j - (m + 1)), tlen (m + 1 + j - (m + 1)))) else _) = _
    rw [if_pos (inH_j hj), if_neg (by omega), Nat.add_sub_cancel_left]
    unfold ttg tlen
    rw [hq]
    rfl
  · show (if inH m m = true then (if m = m then frT m (200 + q.1) else none) else _) = _
    rw [if_pos (inH_m m), if_pos rfl]
    exact frT_at hq
/-- two heaps agree at a cell -/
def Ag (h h' : AH) (a : Nat) : Prop := h'.kd a = h.kd a ∧ (∀ F, h'.fi F a = h.fi F a) ∧ (∀ F, h'.fl F a = h.fl F a) ∧ (∀ F, h'.fr F a = h.fr F a) ∧ h'.ai a = h.ai a ∧ h'.al a = h.al a ∧ h'.ar a = h.ar a
theorem Ag.fv {h h' : AH} {a : Nat} (A : Ag h h' a) (ty : FieldType) (F : Nat) : fval ty h' F a = fval ty h F a := by
  obtain ⟨-, a1, a2, a3, -⟩ := A
  cases ty <;> first | exact congrArg vI (a1 F) | exact congrArg vJ (a2 F) | exact congrArg vA (a3 F)
theorem Ag.ac {h h' : AH} {a : Nat} (A : Ag h h' a) (ty : FieldType) : acont ty h' a = acont ty h a := by
  obtain ⟨a0, -, -, -, a4, a5, a6⟩ := A
  unfold acont
  rw [a0, a4, a5, a6]
theorem cok.ag {D : va_G} {H H1 : Heap} {h h' : AH} {a : Nat} (hc : cok D H h a) (A : Ag h h' a) (hl : h'.lo = h.lo) (hq : H1[a]? = H[a]?) : cok D H1 h' a := by
  obtain ⟨c1, c2⟩ := hc
  refine ⟨fun i hi => ?_, fun ty hty => ?_⟩
  · rw [A.1] at hi ⊢
    rw [hl]
    exact ((c1 i hi).kept hq).to (fun j _ => by rw [A.fv])
  · rw [A.1] at hty ⊢
    rw [hl, A.ac]
    exact (c2 ty hty).kept hq
theorem Ag.symm {h h' : AH} {a : Nat} (A : Ag h h' a) : Ag h' h a := ⟨A.1.symm, fun F => (A.2.1 F).symm, fun F => (A.2.2.1 F).symm, fun F => (A.2.2.2.1 F).symm, A.2.2.2.2.1.symm, A.2.2.2.2.2.1.symm, A.2.2.2.2.2.2.symm⟩
/-- off the twin's region the whole heap is the component's view -/
theorem mix_off {s0 : S0} {m : Nat} {T : TS} {g : AH} {a : Nat} (h : inH m a ≠ true) : Ag g (mix s0 m T g) a := by
  have h0 : ¬ (m ≤ a ∧ a ≤ m + 44) := fun q => h (inH_iff.mpr q)
  have h1 : a ≠ m := fun e => h0 (by omega)
  have h2 : ¬ (m < a ∧ a ≤ m + tNA) := fun e => h0 ⟨by omega, e.2⟩
  refine ⟨if_neg h, fun F => ?_, fun F => ?_, fun F => if_neg h, ?_, ?_, ?_⟩
  · exact (if_neg h1).trans (if_neg h)
  · exact (if_neg h1).trans (if_neg h)
  · funext i
    exact (if_neg h2).trans (if_neg h)
  · funext i
    exact (if_neg h2).trans (if_neg h)
  · funext i
    exact if_neg h
/-- in the region it does not hang on g -/
theorem mix_in {s0 : S0} {m : Nat} {T : TS} {g g' : AH} {a : Nat} (h : inH m a = true) : Ag (mix s0 m T g) (mix s0 m T g') a := by
  refine ⟨?_, fun F => ?_, fun F => ?_, fun F => ?_, ?_, ?_, ?_⟩
  · exact (if_pos h).trans (if_pos h).symm
  · show (if a = m then T.s F else (if inH m a = true then 0 else g'.fi F a)) = (if a = m then T.s F else (if inH m a = true then 0 else g.fi F a))
    rw [if_pos h, if_pos h]
  · show (if a = m then T.w F else (if inH m a = true then 0 else g'.fl F a)) = (if a = m then T.w F else (if inH m a = true then 0 else g.fl F a))
    rw [if_pos h, if_pos h]
  · exact (if_pos h).trans (if_pos h).symm
  · funext i
    show (if m < a ∧ a ≤ m + tNA then T.a (a - (m + 1)) i else (if inH m a = true then 0 else g'.ai a i)) = (if m < a ∧ a ≤ m + tNA then T.a (a - (m + 1)) i else (if inH m a = true then 0 else g.ai a i))
    rw [if_pos h, if_pos h]
  · funext i
    show (if m < a ∧ a ≤ m + tNA then T.l (a - (m + 1)) i else (if inH m a = true then 0 else g'.al a i)) = (if m < a ∧ a ≤ m + tNA then T.l (a - (m + 1)) i else (if inH m a = true then 0 else g.al a i))
    rw [if_pos h, if_pos h]
  · funext i
    exact (if_pos h).trans (if_pos h).symm
/-- the component's view tells nothing of the twin's region -/
def HZ (m : Nat) (g : AH) : Prop := ∀ a, inH m a = true → (g.kd a).1 = 0
theorem ttg_ne : ∀ j : Fin 44, ttg j.val ≠ 0 ∧ ROk (ttg j.val) = false := by decide +kernel
theorem mix_kd {s0 : S0} {m : Nat} {T : TS} {g : AH} {a : Nat} (h : inH m a = true) : ((mix s0 m T g).kd a).1 ≠ 0 ∧ ROk ((mix s0 m T g).kd a).1 = false := by
  have e : (mix s0 m T g).kd a = (if a = m then (2, 0) else (ttg (a - (m + 1)), tlen (a - (m + 1)))) := if_pos h
  rw [e]
  by_cases h1 : a = m
  · rw [if_pos h1]; exact ⟨by decide, rfl⟩
  · rw [if_neg h1]
    have h2 := inH_iff.mp h
    exact ttg_ne ⟨a - (m + 1), by omega⟩
theorem cs_bs {h : AH} {s0 : S0} (hb : h.bs = bsOf s0) (a : Nat) : h.cs (1000 + a) = if s0.2 a = true then 1 else 0 := by
  have e : h.cs (1000 + a) = csOf s0 (1000 + a) := by
    show h.bs.2 _ = _
    rw [hb]; rfl
  rw [e, cs_hole]
theorem Rp.view {D : va_G} {H : Heap} {s0 : S0} {m : Nat} {T : TS} {g : AH} (hR : Rp D H (mix s0 m T g)) (hz : HZ m g) (hb : g.bs = bsOf (sH s0 m)) : Rp D H g := by
  obtain ⟨r1, ⟨r2, r2b, r2c⟩, r3, r4⟩ := id hR
  have hl : g.lo = (mix s0 m T g).lo := (lo_of hb).trans rfl
  have hoff : ∀ a, (g.kd a).1 ≠ 0 → inH m a ≠ true := fun a h1 h2 => h1 (hz a h2)
  refine ⟨r1, ⟨fun a ha => ?_, fun a ha => ?_, fun a ha => ?_⟩, fun a ha => ?_, fun a => ?_⟩
  · by_cases h : inH m a = true
    · exact hz a h
    · have := r2 a ha
      rw [(mix_off h).1] at this
      exact this
  · rw [cs_bs hb]
    exact if_neg (hoff a ha)
  · rw [cs_bs hb]
    refine if_neg (fun h => ?_)
    have := hR.lt (mix_kd h).1
    exact absurd (show a < g.sz from this) (by omega)
  · by_cases h : inH m a = true
    · rw [hz a h] at ha; cases ha
    · have := r3 a (by rw [(mix_off h).1]; exact ha)
      rw [hl]; exact this
  · by_cases h : inH m a = true
    · have h0 := hz a h
      refine ⟨fun i hi => ?_, fun ty hty => ?_⟩
      · rw [h0] at hi; cases hi
      · rw [h0] at hty; cases hty
    · exact (r4 a).ag (mix_off h).symm hl rfl
theorem Rp.mixed {D : va_G} {H H2 : Heap} {s0 : S0} {m : Nat} {T : TS} {g g2 : AH} (hR : Rp D H (mix s0 m T g)) (hR2 : Rp D H2 g2) (hb : g2.bs = bsOf (sH s0 m)) (hno : ∀ a, s0.2 a = false) (hm : s0.1.heap.size ≤ m) (hs : H.size ≤ H2.size) (hk : ∀ a, inH m a = true → H2[a]? = H[a]?) : Rp D H2 (mix s0 m T g2) := by
  obtain ⟨r1, ⟨r2, r2b, r2c⟩, r3, r4⟩ := hR2
  have hl : (mix s0 m T g2).lo = g2.lo := ((lo_of hb).trans rfl).symm
  have hin : ∀ a, inH m a = true → a < g2.sz := fun a h => by
    have h1 := hR.lt (mix_kd h).1
    have h2 : H.size = (mix s0 m T g).sz := hR.1
    omega
  have hcs : ∀ a, (mix s0 m T g2).cs (1000 + a) = 0 := fun a => by
    rw [cs_bs (s0 := s0) rfl, hno a]; rfl
  refine ⟨r1, ⟨fun a ha => ?_, fun a ha => hcs a, fun a ha => hcs a⟩, fun a ha => ?_, fun a => ?_⟩
  · by_cases h : inH m a = true
    · exact absurd (hin a h) (Nat.not_lt.mpr ha)
    · rw [(mix_off h).1]; exact r2 a ha
  · by_cases h : inH m a = true
    · have := (inH_iff.mp h).1
      show s0.1.heap.size ≤ a
      omega
    · rw [(mix_off h).1] at ha
      rw [hl]; exact r3 a ha
  · by_cases h : inH m a = true
    · exact (hR.2.2.2 a).ag (mix_in h) rfl (hk a h)
    · exact (r4 a).ag (mix_off h) hl rfl
theorem HZ.of {D : va_G} {H : Heap} {s0 : S0} {m : Nat} {g : AH} (hR : Rp D H g) (hb : g.bs = bsOf (sH s0 m)) : HZ m g := by
  intro a h
  by_cases h1 : (g.kd a).1 = 0
  · exact h1
  · have h2 := hR.2.1.2.1 a h1
    rw [cs_bs hb, if_pos (show (sH s0 m).2 a = true from h)] at h2
    cases h2
section LAWROWS
variable {p : Program} {l : Launch} {e : Env} {R : Room} {s : State} {m9 : MethodId} {args : Array Value} {below : List Frame} {meth : Method} {c : Code} {D : va_G} {s0 s1 : S0} {nL mc ms : Nat} {Z : State → Prop} {pc : Nat} {L : List (Nat × SV)} {st : List SV} {h : AH} {H : Heap} {locs : List Loc} {ls : Array Slot}
theorem px_ranH {mc2 ms2 : Nat} {st0 rest : List Value} {Q2 : Option SV → AH → Prop} {a : Array Value} (hr : va_Run p l e R s m9 args below meth c H locs (mc - h.rc) (ms - h.rs) mc2 ms2 (F0 m9 pc ls st0) rest (Qg D s1 Q2 a) (Lo s1)) (hsub : ∀ q, Lo s1 q → Lo s0 q) (hl : lv_has ls nL (L.map tL)) (hrest : rest = st.map tV) (hS : va_S (Lo s0) s.heap H locs) (h1 : h.rc ≤ mc) (h2 : h.rs ≤ ms) (g1 : mc2 ≤ h.rc) (g2 : ms2 ≤ h.rs)
    (kk : ∀ v h' H2, Q2 v h' → Rp D H2 h' → h'.bs = bsOf s1 → H.size ≤ H2.size → (∀ q : Nat, q < H.size → ¬ Lo s1 q → H2[q]? = H[q]?) → ∃ g, g.rc = h.rc - mc2 ∧ g.rs = h.rs - ms2 ∧ Rp D H2 g ∧ g.bs = bsOf s0 ∧ KK p l e R s m9 args below meth c D s0 nL mc ms Z (pc + 3) L (v.toList ++ st) g) : W p l e R s m9 args below meth c H locs (mc - h.rc) (ms - h.rs) Z (F0 m9 pc ls st0) := by
  intro T hT X
  subst hrest
  obtain ⟨v, st₀, t, T', L2, h0, X', hL, e1, e2, ⟨w, h', hv, hq, hR', hlo', hz, hk⟩, stp⟩ := hr T hT X
  cases hv
  rw [h0] at hz hk
  obtain ⟨g, gr, gs, hRg, hbg, kz⟩ := kk w h' t.heap hq hR' hlo' hz hk
  have e3 : mc - h.rc + mc2 = mc - g.rc := by omega
  have e4 : ms - h.rs + ms2 = ms - g.rs := by omega
  rw [e3, e4] at X'
  obtain ⟨t2, a1, b1⟩ := kz T'.heap (locs ++ L2) ls hl (by rw [e1]; exact hRg) hbg
    ⟨Nat.le_trans hS.1 (by rw [e1]; exact hz), fun q q1 q2 => by rw [e1, hk q (Nat.lt_of_lt_of_le q1 hS.1) (fun q3 => q2 (hsub q q3))]; exact hS.2.1 q q1 q2, fun q hq => by
      rcases List.mem_append.mp hq with h | h
      · exact hS.2.2 q h
      · exact hsub _ (hL q h)⟩ (by omega) (by omega) T' rfl X'
  refine ⟨t2, stp t2 ?_, b1⟩
  rw [List.map_append] at a1
  have e5 : (w.map tV).toList = w.toList.map tV := by cases w <;> rfl
  rw [e5]
  exact a1
end LAWROWS
section LAWCALLS
variable {l : Launch} {D : va_G} {s0 : S0} {cc : ByteArray} {own mn : String} {nL fr lw mc ms : Nat} {ret : Option FieldType} {Q : Option SV → AH → Prop} {K : KT}
variable {pc : Nat} {L : List (Nat × SV)} {m : Nat} {T : TS} {g : AH}
theorem lo_sub {s0 : S0} {m : Nat} (hno : ∀ a, s0.2 a = false) : ∀ q, Lo (sH s0 m) q → Lo s0 q := fun q h => ⟨h.1, hno q⟩
theorem in_nlo {s0 : S0} {m a : Nat} (h : inH m a = true) : ¬ Lo (sH s0 m) a := fun q => by
  have := q.2
  rw [show (sH s0 m).2 a = inH m a from rfl, h] at this
  cases this
/-- the component is called: its contract is told at a start that has the twin's region as its hole -/
theorem px_cVh (C : Cx l D s0 cc own mn nL fr lw mc ms ret Q K) (t : Nat) {index : Nat} (nxt : Nat) {y : MethodName} {b2 : ByteArray} {L2 : Nat} {r2 : Option FieldType} {fr2 lw2 mc2 ms2 : Nat} {CC : String} {r : Option Nat} (As st : List SV) {Q2 : Option SV → AH → Prop} (d : decode cc pc = .ok (.invokevirtual index, 3)) (hnx : pc + 3 = nxt) (hno : ∀ a, s0.2 a = false) (hm : s0.1.heap.size ≤ m) (hz : HZ m g) (hbs : g.bs = bsOf (sH s0 m))
    (hM : OKm l D (sH s0 m) y b2 L2 r2 fr2 lw2 (vA (some (adr r)) :: As) (g.srm mc2 ms2) Q2) (hle : mc2 ≤ g.rc ∧ ms2 ≤ g.rs) (q1 : Cond.methodLink own index y ∈ lw_all) (q2 : Cond.instanceMethod y ∈ lw_all) (q3 : Cond.selects CC y y ∈ lw_all) (q4 : Cond.initialized CC ∈ lw_all) (q5 : Cond.code y b2 L2 r2 ∈ lw_all)
    (hcl : (CL t).map (fun i => i.1) = some CC) (hd : y.cls = CC ∧ y.cls ≠ "java/lang/invoke/MethodHandle" ∧ y.cls ≠ "java/lang/invoke/VarHandle" ∧ (parseMethodDescriptor y.desc).map (fun d => d.parameters.length) = some As.length) (hroom : Nat.ble (fr2 + 1) fr = true ∧ Nat.ble (8 + (L2 + 11) + lw2) lw = true ∧ Nat.ble (st.map wd).sum 8 = true) (hn : nn g r t)
    (kk : ∀ v g' g2, Q2 v g' → g2 = g'.srm (g.rc - mc2) (g.rs - ms2) → HZ m g2 → g2.bs = bsOf (sH s0 m) → K nxt L (v.toList ++ st) (mix s0 m T g2)) : K pc L (As.reverse ++ vA r :: st) (mix s0 m T g) := by
  obtain ⟨p, e, R, s, m9, args, below, meth, c, Z, hx, hb, hml, ho, hts, hds, hG, ⟨rf1, rf2, rf3, rf4⟩, hr, hzz, rfl⟩ := C
  subst hnx
  obtain ⟨a, rfl, hkd⟩ := hn
  intro H locs ls hl hR hlo hS h1 h2
  have hRg : Rp D H g := hR.view hz hbs
  have cw := cwV (R := R) (mc := mc2) (ms := ms2) (rm := { frames := fr2, cells := mc2, slots := ms2, locals := lw2 }) As.length hts (lw_V q1 q2 q3 q4 q5) rfl rfl rfl hd ⟨by rw [rf1]; exact Nat.le_of_ble_eq_true hroom.1, by rw [rf2]; exact Nat.le_of_ble_eq_true hroom.2.1⟩
  have hat : ∀ U : State, U.heap = H → s.WarmedH U.vm → Pg D (sH s0 m) (vA (some a) :: As) (g.srm mc2 ms2) ((vA (some a) :: As).map tV).toArray U := fun U hU hW => ⟨rfl, by rw [hU]; exact hRg.srm, hbs, (Pg.at (vs := vA (some a) :: As) hds hR hlo hS U hU hW).2.2.2⟩
  refine px_ranH (h := mix s0 m T g) (va_runV (mc := mc2) (ms := ms2) (As := As.map tV) (rest := st.map tV) (b := a) (g := F0 m9 pc ls ((As.reverse ++ vA (some a) :: st).map tV)) ⟨hx, hb, hml, ho, hts⟩ hM cw ⟨Pg.blind, x_recv hds hG hRg hkd hcl, hat⟩ rfl (List.length_map _) hl.1 ?_ (lv_room (by rw [sum_tV]; exact Nat.le_of_ble_eq_true hroom.2.2)) d ⟨by rw [rf3]; have := hle.1; have h1' : g.rc ≤ mc := h1; show mc - g.rc + mc2 ≤ mc; omega, by rw [rf4]; have := hle.2; have h2' : g.rs ≤ ms := h2; show ms - g.rs + ms2 ≤ ms; omega⟩) (lo_sub hno) hl rfl hS h1 h2 hle.1 hle.2 ?_
  · show (As.reverse ++ vA (some a) :: st).map tV = (As.map tV).reverse ++ Value.ref a :: st.map tV
    rw [List.map_append, List.map_reverse]
    rfl
  · intro v h' H2 hq hR' hb' hsz hk'
    refine ⟨mix s0 m T (h'.srm (g.rc - mc2) (g.rs - ms2)), rfl, rfl, hR.mixed hR'.srm hb' hno hm hsz (fun q hq => ?_), rfl, kk v h' _ hq rfl (HZ.of hR'.srm hb') hb'⟩
    exact hk' q (by rw [hR.1]; exact hR.lt (mix_kd hq).1) (in_nlo hq)
/-- a method with handlers -/
theorem px_cVhW (C : Cx l D s0 cc own mn nL fr lw mc ms ret Q K) (t : Nat) {index : Nat} (nxt : Nat) {y : MethodName} {b2 : ByteArray} {L2 : Nat} {r2 : Option FieldType} {hh : List (Nat × Nat × Nat × Nat)} {fr2 lw2 mc2 ms2 : Nat} {CC : String} {r : Option Nat} (As st : List SV) {Q2 : Option SV → AH → Prop} (d : decode cc pc = .ok (.invokevirtual index, 3)) (hnx : pc + 3 = nxt) (hno : ∀ a, s0.2 a = false) (hm : s0.1.heap.size ≤ m) (hz : HZ m g) (hbs : g.bs = bsOf (sH s0 m))
    (hM : OKw l D (sH s0 m) y b2 L2 r2 hh fr2 lw2 (vA (some (adr r)) :: As) (g.srm mc2 ms2) Q2) (hle : mc2 ≤ g.rc ∧ ms2 ≤ g.rs) (q1 : Cond.methodLink own index y ∈ lw_all) (q2 : Cond.instanceMethod y ∈ lw_all) (q3 : Cond.selects CC y y ∈ lw_all) (q4 : Cond.initialized CC ∈ lw_all) (q5 : Cond.codeWith y b2 L2 r2 hh ∈ lw_all)
    (hcl : (CL t).map (fun i => i.1) = some CC) (hd : y.cls = CC ∧ y.cls ≠ "java/lang/invoke/MethodHandle" ∧ y.cls ≠ "java/lang/invoke/VarHandle" ∧ (parseMethodDescriptor y.desc).map (fun d => d.parameters.length) = some As.length) (hroom : Nat.ble (fr2 + 1) fr = true ∧ Nat.ble (8 + (L2 + 11) + lw2) lw = true ∧ Nat.ble (st.map wd).sum 8 = true) (hn : nn g r t)
    (kk : ∀ v g' g2, Q2 v g' → g2 = g'.srm (g.rc - mc2) (g.rs - ms2) → HZ m g2 → g2.bs = bsOf (sH s0 m) → K nxt L (v.toList ++ st) (mix s0 m T g2)) : K pc L (As.reverse ++ vA r :: st) (mix s0 m T g) := by
  obtain ⟨p, e, R, s, m9, args, below, meth, c, Z, hx, hb, hml, ho, hts, hds, hG, ⟨rf1, rf2, rf3, rf4⟩, hr, hzz, rfl⟩ := C
  subst hnx
  obtain ⟨a, rfl, hkd⟩ := hn
  intro H locs ls hl hR hlo hS h1 h2
  have hRg : Rp D H g := hR.view hz hbs
  have cw := ve_cwVW (R := R) (mc := mc2) (ms := ms2) (rm := { frames := fr2, cells := mc2, slots := ms2, locals := lw2 }) As.length hts (lw_VW q1 q2 q3 q4 q5) rfl rfl rfl hd ⟨by rw [rf1]; exact Nat.le_of_ble_eq_true hroom.1, by rw [rf2]; exact Nat.le_of_ble_eq_true hroom.2.1⟩
  have hat : ∀ U : State, U.heap = H → s.WarmedH U.vm → Pg D (sH s0 m) (vA (some a) :: As) (g.srm mc2 ms2) ((vA (some a) :: As).map tV).toArray U := fun U hU hW => ⟨rfl, by rw [hU]; exact hRg.srm, hbs, (Pg.at (vs := vA (some a) :: As) hds hR hlo hS U hU hW).2.2.2⟩
  refine px_ranH (h := mix s0 m T g) (ve_runVW (mc := mc2) (ms := ms2) (As := As.map tV) (rest := st.map tV) (b := a) (g := F0 m9 pc ls ((As.reverse ++ vA (some a) :: st).map tV)) ⟨hx, hb, hml, ho, hts⟩ hM cw ⟨Pg.blind, x_recv hds hG hRg hkd hcl, hat⟩ rfl (List.length_map _) hl.1 ?_ (lv_room (by rw [sum_tV]; exact Nat.le_of_ble_eq_true hroom.2.2)) d ⟨by rw [rf3]; have := hle.1; have h1' : g.rc ≤ mc := h1; show mc - g.rc + mc2 ≤ mc; omega, by rw [rf4]; have := hle.2; have h2' : g.rs ≤ ms := h2; show ms - g.rs + ms2 ≤ ms; omega⟩) (lo_sub hno) hl rfl hS h1 h2 hle.1 hle.2 ?_
  · show (As.reverse ++ vA (some a) :: st).map tV = (As.map tV).reverse ++ Value.ref a :: st.map tV
    rw [List.map_append, List.map_reverse]
    rfl
  · intro v h' H2 hq hR' hb' hsz hk'
    refine ⟨mix s0 m T (h'.srm (g.rc - mc2) (g.rs - ms2)), rfl, rfl, hR.mixed hR'.srm hb' hno hm hsz (fun q hq => ?_), rfl, kk v h' _ hq rfl (HZ.of hR'.srm hb') hb'⟩
    exact hk' q (by rw [hR.1]; exact hR.lt (mix_kd hq).1) (in_nlo hq)
/-- the twin is called -/
theorem px_cVt (C : Cx l D s0 cc own mn nL fr lw mc ms ret Q K) {index : Nat} (nxt : Nat) {y : MethodName} {b2 : ByteArray} {L2 : Nat} {r2 : Option FieldType} {fr2 lw2 : Nat} (As st : List SV) {Q2 : Option SV → TS → Prop} (d : decode cc pc = .ok (.invokevirtual index, 3)) (hnx : pc + 3 = nxt)
    (hM : OKt l D s0 m y b2 L2 r2 fr2 lw2 (vA (some m) :: As) T Q2) (q1 : Cond.methodLink own index y ∈ lw_all) (q2 : Cond.instanceMethod y ∈ lw_all) (q3 : Cond.selects RX1 y y ∈ lw_all) (q4 : Cond.initialized RX1 ∈ lw_all) (q5 : Cond.code y b2 L2 r2 ∈ lw_all)
    (hd : y.cls = RX1 ∧ y.cls ≠ "java/lang/invoke/MethodHandle" ∧ y.cls ≠ "java/lang/invoke/VarHandle" ∧ (parseMethodDescriptor y.desc).map (fun d => d.parameters.length) = some As.length) (hroom : Nat.ble (fr2 + 1) fr = true ∧ Nat.ble (8 + (L2 + 11) + lw2) lw = true ∧ Nat.ble (st.map wd).sum 8 = true)
    (kk : ∀ v T', Q2 v T' → K nxt L (v.toList ++ st) (mix s0 m T' g)) : K pc L (As.reverse ++ vA (some m) :: st) (mix s0 m T g) := by
  have hT : TW m ((bas s0 m g).srm 0 0) := bas_tw s0 m g
  have e0 : (mix s0 m T g).srm 0 0 = tput m T ((bas s0 m g).srm 0 0) := rfl
  have hM2 : OKm l D s0 y b2 L2 r2 fr2 lw2 (vA (some (adr (some m))) :: As) ((mix s0 m T g).srm 0 0) (fun v h' => ∃ T', h' = tput m T' ((bas s0 m g).srm 0 0) ∧ Q2 v T') := by
    rw [e0]
    exact hM _ hT
  refine x_cV C 2 nxt (mc2 := 0) (ms2 := 0) (r := some m) As st d hnx hM2 ⟨Nat.zero_le _, Nat.zero_le _⟩ q1 q2 q3 q4 q5 rfl hd hroom ⟨m, rfl, ?_⟩ (fun v h' h2 hq e2 => ?_)
  · show ((bas s0 m g).kd m).1 = 2
    rw [(bas_tw s0 m g).1]
  · obtain ⟨T', rfl, hq⟩ := hq
    subst e2
    exact kk v T' hq
/-- an int of the script -/
theorem px_sald (C : Cx l D s0 cc own mn nL fr lw mc ms ret Q K) {h : AH} {st : List SV} {b N : Nat} {xs : Nat → Int32} {i : Int32} (nxt : Nat) (d : decode cc pc = .ok (.iaload, 1)) (hn : pc + 1 = nxt) (hX : va_X b N xs s0.1 s0.1.heap) (hi : ¬ (i < 0 ∨ N ≤ i.toNatClampNeg)) (k : K nxt L (vI (xs (ni i)) :: st) h) : K pc L (vI i :: vA (some b) :: st) h := by
  obtain ⟨p, e, R, s, m9, args, below, meth, c, Z, hx, hb, hml, ho, hts, hds, hG, hRm, hr, hz, rfl⟩ := C
  subst hn
  intro H locs ls hl hR hlo hS h1 h2
  obtain ⟨scr, w1, w2, w3, w4, w5⟩ := hX
  have hlt : b < s0.1.heap.size := (Array.getElem?_eq_some_iff.mp w1).1
  have hcell : H[b]? = some scr := by rw [hS.2.1 b (Nat.lt_of_lt_of_le hlt hds.2.1) (lo_old b hlt), hds.2.2 b hlt]; exact w1
  exact W.iald hx hb hcell (State.isArrayOf_alike hds.1.alike w2) w3 (by rw [w4]; exact hi) (w5 _ (Nat.not_le.mp fun q => hi (Or.inr q))) rfl rfl d (k H locs ls hl hR hlo hS h1 h2)
theorem px_slen (C : Cx l D s0 cc own mn nL fr lw mc ms ret Q K) {h : AH} {st : List SV} {b N : Nat} {xs : Nat → Int32} (nxt : Nat) (d : decode cc pc = .ok (.arraylength, 1)) (hn : pc + 1 = nxt) (hX : va_X b N xs s0.1 s0.1.heap) (k : K nxt L (vI (nI N) :: st) h) : K pc L (vA (some b) :: st) h := by
  obtain ⟨p, e, R, s, m9, args, below, meth, c, Z, hx, hb, hml, ho, hts, hds, hG, hRm, hr, hz, rfl⟩ := C
  subst hn
  intro H locs ls hl hR hlo hS h1 h2
  obtain ⟨scr, w1, w2, w3, w4, w5⟩ := hX
  have hlt : b < s0.1.heap.size := (Array.getElem?_eq_some_iff.mp w1).1
  have hcell : H[b]? = some scr := by rw [hS.2.1 b (Nat.lt_of_lt_of_le hlt hds.2.1) (lo_old b hlt), hds.2.2 b hlt]; exact w1
  exact W.alen (n := nI N) hx hb hcell (State.isArrayOf_alike hds.1.alike w2) (by rw [w4]; rfl) rfl rfl d (k H locs ls hl hR hlo hS h1 h2)
end LAWCALLS
end
