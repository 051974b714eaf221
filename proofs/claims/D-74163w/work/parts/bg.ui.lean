/-! plain: ui -/
set_option maxRecDepth 100000
section
variable {h : AH} {o jn tpa : Nat} {X : AX} {L : GA} {A : PG} {g : Nat} {ind : Nat → Int32} {V V' : Tv} {sz sz' : Nat → Nat} {gv : Nat → Int32} {D : TA} {k : Nat} {P : PT}

/-- the parts of what grafting runs, from behind. -/
def gT5 (o : Nat) (p1 : Option Nat) (oi : Nat) (had r2 : Option Nat) (h97 : AH) (Q : AH → Prop) : Prop :=
  nr h97 13 ∧
  ∀ h98, h98 = h97.new 17 0 13 →
  cl h98 fun mc102 ms103 => wp_X17_init h97.sz (some o) (h98.srm mc102 ms103) fun h100 => ∀ h101, h101 = h100.srm (h98.rc - mc102) (h98.rs - ms103) →
  nn h101 (some o) 1 ∧
  ∀ h106, h106 = h101.sfr 106 o (some h97.sz) →
  nl h106 320 ∧
  ∀ h107, h107 = h106.new 40 (ni 320) (ni 320) →
  nl h107 320 ∧
  ∀ h108, h108 = h107.new 42 (ni 320) (ni 320) →
  xlp (σ := Int32) (fun s109 T110 k109 =>
  nn T110 (some o) 1 ∧
  nn T110 (T110.fr 106 o) 17 ∧
  (((T110.fi 1700 (adr (T110.fr 106 o))) ≤ s109 →
  cl T110 fun mc117 ms118 => wp_X17_reckonsDue (adr (T110.fr 106 o)) (some h107.sz) had (some h106.sz) (T110.srm mc117 ms118) fun h115 => ∀ h116, h116 = h115.srm (T110.rc - mc117) (T110.rs - ms118) →
  Q h116) ∧ (¬ (T110.fi 1700 (adr (T110.fr 106 o))) ≤ s109 →
  ix T110 (some oi) 40 (s109 / 8) ∧
  ∀ m120 : Int32, m120 = (if 0 ≤ (T110.ai oi (ni (s109 / 8))) then ((8 * (T110.ai oi (ni (s109 / 8)))) + (jrem s109 8)) else (-1)) →
  ix T110 (some h106.sz) 40 s109 ∧
  ∀ h122, h122 = T110.sai h106.sz (ni s109) m120 →
  nn h122 (h122.fr 106 o) 17 ∧
  wp_X17_is (adr (h122.fr 106 o)) s109 (h122.srm 0 0) fun r124 h125 => ∀ h126, h126 = h125.srm h122.rc h122.rs →
  ((r124 = 0 →
  ix h126 (some h107.sz) 42 s109 ∧
  ∀ h128, h128 = h126.sai h107.sz (ni s109) (vp_nar .boolean 0) →
  k109 (s109 + 1) h128) ∧ (¬ r124 = 0 →
  (((T110.ai oi (ni (s109 / 8))) < 0 →
  ix h126 (some h107.sz) 42 s109 ∧
  ∀ h130, h130 = h126.sai h107.sz (ni s109) (vp_nar .boolean 1) →
  k109 (s109 + 1) h130) ∧ (¬ (T110.ai oi (ni (s109 / 8))) < 0 →
  nn h126 p1 15 ∧
  (((s109 / 8) = (h126.fi 1502 (adr p1)) →
  wp_X15_kind (adr p1) (h126.srm 0 0) fun r138 h139 => ∀ h140, h140 = h139.srm h126.rc h126.rs →
  nn h140 r138 6 ∧
  (((h140.fi 602 (adr r138)) ≤ (jrem s109 8) →
  ix h140 (some h107.sz) 42 s109 ∧
  ∀ h143, h143 = h140.sai h107.sz (ni s109) (vp_nar .boolean 1) →
  k109 (s109 + 1) h143) ∧ (¬ (h140.fi 602 (adr r138)) ≤ (jrem s109 8) →
  nn h140 had 17 ∧
  ix h140 (some h106.sz) 40 s109 ∧
  ix h140 (h140.fr 1701 (adr had)) 40 (h140.ai h106.sz (ni s109)) ∧
  ix h140 r2 42 (h140.ai (adr (h140.fr 1701 (adr had))) (ni (h140.ai h106.sz (ni s109)))) ∧
  ∀ m145 : Int32, m145 = (if (h140.ai (adr r2) (ni (h140.ai (adr (h140.fr 1701 (adr had))) (ni (h140.ai h106.sz (ni s109)))))) = 0 then 0 else 1) →
  ix h140 (some h107.sz) 42 s109 ∧
  ∀ h147, h147 = h140.sai h107.sz (ni s109) (vp_nar .boolean m145) →
  k109 (s109 + 1) h147))) ∧ (¬ (s109 / 8) = (h126.fi 1502 (adr p1)) →
  nn h126 had 17 ∧
  ix h126 (some h106.sz) 40 s109 ∧
  ix h126 (h126.fr 1701 (adr had)) 40 (h126.ai h106.sz (ni s109)) ∧
  ix h126 r2 42 (h126.ai (adr (h126.fr 1701 (adr had))) (ni (h126.ai h106.sz (ni s109)))) ∧
  ∀ m134 : Int32, m134 = (if (h126.ai (adr r2) (ni (h126.ai (adr (h126.fr 1701 (adr had))) (ni (h126.ai h106.sz (ni s109)))))) = 0 then 0 else 1) →
  ix h126 (some h107.sz) 42 s109 ∧
  ∀ h136, h136 = h126.sai h107.sz (ni s109) (vp_nar .boolean m134) →
  k109 (s109 + 1) h136))))))))) 0 h108
def gT4 (o : Nat) (p0 p1 : Option Nat) (oi st be : Nat) (gi : Int32) (had r2 : Option Nat) (h80 : AH) (Q : AH → Prop) : Prop :=
  wp_J6_fill (some oi) (-1) (h80.srm 0 0) fun h85 => ∀ h86, h86 = h85.srm h80.rc h80.rs →
  xlp (σ := Int32) (fun s87 T88 k87 =>
  nn T88 (some st) 23 ∧
  wp_J12_size st (T88.srm 0 0) fun r90 h91 => ∀ h92, h92 = h91.srm T88.rc T88.rs →
  ((r90 ≤ s87 →
  nn h92 p1 15 ∧
  ix h92 (some oi) 40 (h92.fi 1502 (adr p1)) ∧
  ∀ h95, h95 = h92.sai oi (ni (h92.fi 1502 (adr p1))) gi →
  nn h95 p0 15 ∧
  cpk h95 40 (h95.fr 1507 (adr p0)) 0 (h95.fr 1507 (adr p1)) 0 8 ∧
  ∀ h97, h97 = h95.wai (adr (h95.fr 1507 (adr p1))) (va_cpy (h95.ai (adr (h95.fr 1507 (adr p0)))) (h95.ai (adr (h95.fr 1507 (adr p1)))) (ni 0) (ni 0) (ni 8)) →
  gT5 o p1 oi had r2 h97 Q) ∧ (¬ r90 ≤ s87 →
  nn h92 (some st) 23 ∧
  wp_J12_get st s87 (h92.srm 0 0) fun r151 h152 => ∀ h153, h153 = h152.srm h92.rc h92.rs →
  ca h153 r151 15 ∧
  nn h153 r151 15 ∧
  ix h153 (some be) 40 s87 ∧
  ix h153 (some oi) 40 (h153.fi 1502 (adr r151)) ∧
  ∀ h155, h155 = h153.sai oi (ni (h153.fi 1502 (adr r151))) (h153.ai be (ni s87)) →
  k87 (s87 + 1) h155))) 0 h86
def gT3 (o : Nat) (p0 p1 : Option Nat) (oi st : Nat) (gi : Int32) (had r2 : Option Nat) (T67 : AH) (Q : AH → Prop) : Prop :=
  nl T67 40 ∧
  ∀ h68, h68 = T67.new 40 (ni 40) (ni 40) →
  xlp (σ := Int32) (fun s69 T70 k69 =>
  nn T70 (some st) 23 ∧
  wp_J12_size st (T70.srm 0 0) fun r72 h73 => ∀ h74, h74 = h73.srm T70.rc T70.rs →
  ((r72 ≤ s69 →
  nn h74 (some o) 1 ∧
  nn h74 (h74.fr 105 o) 16 ∧
  cl h74 fun mc81 ms82 => wp_X16_numbers (adr (h74.fr 105 o)) (h74.srm mc81 ms82) fun h79 => ∀ h80, h80 = h79.srm (h74.rc - mc81) (h74.rs - ms82) →
  gT4 o p0 p1 oi st T67.sz gi had r2 h80 Q) ∧ (¬ r72 ≤ s69 →
  nn h74 (some st) 23 ∧
  wp_J12_get st s69 (h74.srm 0 0) fun r157 h158 => ∀ h159, h159 = h158.srm h74.rc h74.rs →
  ca h159 r157 15 ∧
  nn h159 r157 15 ∧
  ix h159 (some T67.sz) 40 s69 ∧
  ∀ h161, h161 = h159.sai T67.sz (ni s69) (h159.fi 1502 (adr r157)) →
  k69 (s69 + 1) h161))) 0 h68
def gT2 (o : Nat) (p0 p1 : Option Nat) (oi st : Nat) (had r2 : Option Nat) (h48 : AH) (Q : AH → Prop) : Prop :=
  nn h48 p0 15 ∧
  xjn (α := Unit) (fun J52 =>
  (((h48.fr 1504 (adr p0)) = none →
  nn h48 (some o) 1 ∧
  nn h48 (h48.fr 105 o) 16 ∧
  ∀ h65, h65 = h48.sfr 1600 (adr (h48.fr 105 o)) p1 →
  J52 () h65) ∧ (¬ (h48.fr 1504 (adr p0)) = none →
  nn h48 (h48.fr 1504 (adr p0)) 15 ∧
  nn h48 (h48.fr 1506 (adr (h48.fr 1504 (adr p0)))) 23 ∧
  wp_J12_set (adr (h48.fr 1506 (adr (h48.fr 1504 (adr p0))))) ((h48.fi 1505 (adr p0)) - 1) p1 (h48.srm 0 0) fun r56 h57 => ∀ h58, h58 = h57.srm h48.rc h48.rs →
  nn h58 p0 15 ∧
  nn h58 p1 15 ∧
  ∀ h61, h61 = h58.sfr 1504 (adr p1) (h58.fr 1504 (adr p0)) →
  ∀ h62, h62 = h61.sfi 1505 (adr p1) (h61.fi 1505 (adr p0)) →
  J52 () h62))) (fun x66 T67 =>
  gT3 o p0 p1 oi st (h48.fi 1502 (adr p0)) had r2 T67 Q)
def gT1 (o : Nat) (p0 p1 : Option Nat) (oi st : Nat) (had r2 : Option Nat) (h29 : AH) (Q : AH → Prop) : Prop :=
  nn h29 (some o) 1 ∧
  nn h29 (h29.fr 105 o) 16 ∧
  cl h29 fun mc36 ms37 => wp_X16_from (adr (h29.fr 105 o)) p0 (h29.srm mc36 ms37) fun r33 h34 => ∀ h35, h35 = h34.srm (h29.rc - mc36) (h29.rs - ms37) →
  xjn (α := Option Nat) (fun J39 =>
  ((nn h35 r33 16 ∧
  cl h35 fun mc196 ms197 => wp_X16_iterator (adr r33) (h35.srm mc196 ms197) fun r193 h194 => ∀ h195, h195 = h194.srm (h35.rc - mc196) (h35.rs - ms197) →
  J39 r193 h195) ∨
   (nn h35 r33 19 ∧
  cl h35 fun mc203 ms204 => wp_X19_iterator (adr r33) (h35.srm mc203 ms204) fun r200 h201 => ∀ h202, h202 = h201.srm (h35.rc - mc203) (h35.rs - ms204) →
  J39 r200 h202))) (fun r41 h42 =>
  xlp (σ := Unit) (fun s43 T44 k43 =>
  xjn (α := Int32) (fun J45 =>
  ((nn T44 r41 24 ∧
  wp_J16_hasNext (adr r41) (T44.srm 0 0) fun r185 h186 => ∀ h187, h187 = h186.srm T44.rc T44.rs →
  J45 r185 h187) ∨
   (nn T44 r41 20 ∧
  wp_X20_hasNext (adr r41) (T44.srm 0 0) fun r189 h190 => ∀ h191, h191 = h190.srm T44.rc T44.rs →
  J45 r189 h191))) (fun r47 h48 =>
  ((r47 = 0 →
  gT2 o p0 p1 oi st had r2 h48 Q) ∧ (¬ r47 = 0 →
  xjn (α := Option Nat) (fun J162 =>
  ((nn h48 r41 24 ∧
  cl h48 fun mc174 ms175 => wp_J16_next (adr r41) (h48.srm mc174 ms175) fun r171 h172 => ∀ h173, h173 = h172.srm (h48.rc - mc174) (h48.rs - ms175) →
  J162 r171 h173) ∨
   (nn h48 r41 20 ∧
  cl h48 fun mc181 ms182 => wp_X20_next (adr r41) (h48.srm mc181 ms182) fun r178 h179 => ∀ h180, h180 = h179.srm (h48.rc - mc181) (h48.rs - ms182) →
  J162 r178 h180))) (fun r164 h165 =>
  ca h165 r164 15 ∧
  nn h165 (some st) 23 ∧
  wp_J12_remove st r164 (h165.srm 0 0) fun r167 h168 => ∀ h169, h169 = h168.srm h165.rc h165.rs →
  k43 () h169))))) () h42)
theorem grafts_eq {o : Nat} {p0 p1 : Option Nat} {h : AH} {Q : AH → Prop} (hh :
  nn h (some o) 1 ∧
  cl h fun mc5 ms6 => wp_X0_knotsOf o p0 (h.srm mc5 ms6) fun r2 h3 => ∀ h4, h4 = h3.srm (h.rc - mc5) (h.rs - ms6) →
  nl h4 40 ∧
  ∀ h8, h8 = h4.new 40 (ni 40) (ni 40) →
  nr h8 3 ∧
  ∀ h9, h9 = h8.new 23 0 3 →
  cl h9 fun mc13 ms14 => wp_J12_init h8.sz 4 (h9.srm mc13 ms14) fun h11 => ∀ h12, h12 = h11.srm (h9.rc - mc13) (h9.rs - ms14) →
  nn h12 (some o) 1 ∧
  nn h12 (h12.fr 105 o) 16 ∧
  cl h12 fun mc21 ms22 => wp_X16_iterator (adr (h12.fr 105 o)) (h12.srm mc21 ms22) fun r18 h19 => ∀ h20, h20 = h19.srm (h12.rc - mc21) (h12.rs - ms22) →
  xlp (σ := Unit) (fun s24 T25 k24 =>
  xjn (α := Int32) (fun J26 =>
  ((nn T25 r18 24 ∧
  wp_J16_hasNext (adr r18) (T25.srm 0 0) fun r232 h233 => ∀ h234, h234 = h233.srm T25.rc T25.rs →
  J26 r232 h234) ∨
   (nn T25 r18 20 ∧
  wp_X20_hasNext (adr r18) (T25.srm 0 0) fun r236 h237 => ∀ h238, h238 = h237.srm T25.rc T25.rs →
  J26 r236 h238))) (fun r28 h29 =>
  ((r28 = 0 →
  gT1 o p0 p1 h4.sz h8.sz (h.fr 106 o) r2 h29 Q) ∧ (¬ r28 = 0 →
  xjn (α := Option Nat) (fun J206 =>
  ((nn h29 r18 24 ∧
  cl h29 fun mc221 ms222 => wp_J16_next (adr r18) (h29.srm mc221 ms222) fun r218 h219 => ∀ h220, h220 = h219.srm (h29.rc - mc221) (h29.rs - ms222) →
  J206 r218 h220) ∨
   (nn h29 r18 20 ∧
  cl h29 fun mc228 ms229 => wp_X20_next (adr r18) (h29.srm mc228 ms229) fun r225 h226 => ∀ h227, h227 = h226.srm (h29.rc - mc228) (h29.rs - ms229) →
  J206 r225 h227))) (fun r208 h209 =>
  ca h209 r208 15 ∧
  nn h209 (some h8.sz) 23 ∧
  cl h209 fun mc214 ms215 => wp_J12_add h8.sz r208 (h209.srm mc214 ms215) fun r211 h212 => ∀ h213, h213 = h212.srm (h209.rc - mc214) (h209.rs - ms215) →
  k24 () h213))))) () h20) : wp_X0_grafts o p0 p1 h Q := hh

theorem ktQ_tie {S0 : Ist} (W : A.g.WF) (WF : V.WF A.g) (I0 : IsI S0 A.g V gv) {s : TjS} (F0 : KnF (V.is A.g) (V.ed A.g) s) {i q m : Nat} (hi : V.is A.g i) (hq : s.kn i = some q) : ktQ A V s k (8 * (k + m)) q ↔ S0.tie (8 * k) (8 * (k + m)) i := by
  have cl := F0.clS W WF I0 hi hq
  have ft := F0.f i q hq
  constructor
  · rintro ⟨j, j1, j2, j3, j4, j5⟩
    refine ⟨(I0.vv i).2 hi, by rw [I0.ee]; exact ft.1 j5, j, j1, j2, (cl j).2 j4⟩
  · rintro ⟨t1, t2, j, j1, j2, j3⟩
    have hj := (cl j).1 j3
    refine ⟨j, j1, j2, (I0.vv j).1 (S0.cls_V t1 j3), hj, ft.2 (by rw [← I0.ee]; exact t2)⟩
theorem gDue_is {S0 : Ist} {s m c i : Nat} (hm : 1 ≤ m) (hn : ¬ gNew k m i) : gDue S0 k s m c i ↔ ((i / 8 = k ∧ c ≤ i % 8) ∨ S0.tie (8 * k) (8 * (k + s)) (sgU k s m i)) := by
  unfold gDue sgU
  unfold gNew at hn
  by_cases e : i / 8 ≤ k
  · rw [if_pos e]
    constructor
    · rintro (⟨_, h2⟩ | ⟨h1, h2 | h2⟩ | h1 | ⟨h1, _⟩)
      · exact .inr h2
      · exact .inl ⟨h1, h2⟩
      · exact .inr h2
      · exact absurd h1 hn
      · omega
    · rintro (h1 | h1)
      · exact .inr (.inl ⟨h1.1, .inl h1.2⟩)
      · rcases Nat.lt_or_ge (i / 8) k with l | l
        · exact .inl ⟨l, h1⟩
        · exact .inr (.inl ⟨by omega, .inr h1⟩)
  · rw [if_neg e]
    constructor
    · rintro (⟨h1, _⟩ | ⟨h1, _⟩ | h1 | ⟨_, h2⟩)
      · omega
      · omega
      · exact absurd h1 hn
      · exact .inr h2
    · rintro (h1 | h1)
      · omega
      · exact .inr (.inr (.inr ⟨by omega, h1⟩))
theorem px_gT5 (ok : X.OK) (B0 : CbR h.c o jn tpa) (Y0 : CtR h.c o tpa (X.ws 0)) (Z0 : CoR h.c) (J0 : NzJ h.c) (I0 : CsI h.c) (hg : X.gr = some (A, ind)) {zz : Nat} {hsh : Option (Nat × Nat)} (f3 : h.c.fr 103 o = some g) (zl : h.c.lo ≤ zz) (zs : zz ≤ h.c.sz) (C : CgR (h.c.cut zz) L A g ind) (f4 : h.c.fr 104 o = hsh.map Prod.fst) (H : ∀ x sm, hsh = some (x, sm) → ShR h.c x sm A.g)
    (G : GrK A V sz k P V' sz') (d0 : V'.dp 0 = 0)
    (TR : TrR h.c L D A.g V' o) {ga : Nat} (GN : GnR h.c D ga gv) {i0 : Nat} {B : IA} {tu un : Nat} {s : TjS} {v : Vl} (HR : ∀ tu' un', h.sz ≤ tu' → h.sz ≤ un' → HadR h.c i0 B.kn tu un tu' un') (F0 : KnF (V.is A.g) (V.ed A.g) s) (hkn : ∀ i, i < 8 * V.n → h.c.ai B.kn i = oI (s.kn i)) (N : KnV (istO A.g V gv) s v (h.c.ai tu) (h.c.ai un) s.kts)
    (hold : ∀ y, V'.is A.g y → ¬ gNew k P.V.n y → h.c.ai (D.va (y / 8)) (y % 8) = (istO A.g V gv).val (sgU k (sz k) P.V.n y))
    (dv : VaD D V') (ij : ∀ j k, j < V'.n → k < V'.n → (D.r j = D.r k → j = k) ∧ (D.cl j = D.cl k → j = k) ∧ (D.cd j = D.cd k → j = k)) (rt : h.c.fr 1600 D.t = some (D.r 0)) (rn : ∀ k, k < V'.n → D.cl k ≠ D.rl ∧ D.cd k ≠ D.rd) (rm : 1 ≤ D.rm) (z1 : ∀ k, k < V'.n → zz ≤ D.r k ∧ zz ≤ D.cl k ∧ zz ≤ D.cd k ∧ zz ≤ D.va k) (z2 : zz ≤ D.t ∧ zz ≤ D.rl ∧ zz ≤ D.rd ∧ zz ≤ ga) (hsm : ∀ x sm, hsh = some (x, sm) → ∀ k, k < V'.n → D.va k ≠ sm)
    {oi a0 : Nat} (koi : h.kd oi = (40, 40)) (loi : oi < h.sz) (noi : ∀ j, j < V'.n → D.va j ≠ oi) (voi : ∀ e, e < V'.n → h.ai oi e = if k < e ∧ e < k + P.V.n then -1 else I (if e ≤ k then e else e + sz k - P.V.n))
    (ka0 : h.kd a0 = (42, 320)) (la0 : a0 < h.sz) (va0 : ∀ q, q < 320 → h.ai a0 q = iP (ktQ A V s k (8 * (k + sz k)) q))
    (hc : 13 ≤ h.rc) (hs : 3853 ≤ h.rs) {Q : AH → Prop} (hQ : ∀ h', CRep h'.c o jn tpa (X.cg A V' sz' gv (gDue (istO A.g V gv) k (sz k) P.V.n (A.g.ins (V.sm A.g k))) (gNew k P.V.n) (gOld (istO A.g V gv).val k (sz k) P.V.n)) → Q h') : gT5 o (some (D.r k)) oi (some i0) (some a0) h Q := by
  have K' := G.KN
  have n1 := K'.n1
  have h40 := K'.n40
  have ol : o < h.sz := B0.l
  have CH := C.up zs
  have WF' := K'.WF
  have W := CH.W
  obtain ⟨m1, m2, m3, m4⟩ := G.m1
  have hkn' : k < V'.n := by omega
  have v40 := G.K.n40
  unfold gT5
  refine ⟨⟨by omega, by omega⟩, ?_⟩
  intro h2 e2
  have F2 : Fr W0 h.c h2.c := by rw [e2]; exact (Fr.refl h.c).new _ _ _
  have z2' : h2.sz = h.sz + 1 := by rw [e2]; rfl
  have k2 : (h2.kd h.sz).1 = 17 := by rw [e2, new_kd, if_pos rfl]
  have f2 : ∀ f, h2.fi f h.sz = 0 := fun f => by rw [e2, new_fi, if_pos rfl]
  have r2 : h2.rc = h.rc - 1 ∧ h2.rs = h.rs - 13 := by rw [e2]; exact ⟨rfl, rfl⟩
  refine ⟨8, 2560, ⟨by omega, by omega⟩, ?_⟩
  have S2 := (CH.keep F2 (fun _ _ hh => hh.elim)).X.S
  refine px_initI (h := h2.srm 8 2560) CH.W WF' S2 (TR.w0 F2) k2 (by show h.sz < h2.sz; omega) f2 (Nat.le_refl _) (Nat.le_refl _) ?_
  intro h4 B' tu' un' s' F4 R4 tz uz zB _ _ h5 e5
  have ez : (h2.srm 8 2560).sz = h2.sz := rfl
  rw [ez] at zB
  have c5 : h5.c = h4.c := by rw [e5]; rfl
  have F5 : Fr (WIo h.sz) h2.c h5.c := by rw [c5]; exact F4
  have G5 : Fr W0 h.c h5.c := F2.trans' F5 (fun f b hb hh => by have l : b < h.sz := hb; have := hh.1; omega)
  have R5 : InR h5.c L D A.g V' o h.sz B' tu' un' s' := by rw [c5]; exact R4
  have C5 := CH.keep G5 (fun _ _ hh => hh.elim)
  have GN5 : GnR h5.c D ga gv := ⟨by rw [G5.fr _ _ TR.tl id]; exact GN.f, by rw [G5.kd _ GN.l]; exact GN.k, Nat.lt_of_lt_of_le GN.l G5.sz, fun j hj => by rw [G5.ai _ GN.l id]; exact GN.v j hj⟩
  have K5 : RkB h5.c L D A.g V' o h.sz B' tu' un' s' ga gv := ⟨R5, C5.U, GN5⟩
  have r5 : h5.rc = h.rc - 9 ∧ h5.rs = h.rs - 2573 := by rw [e5]; show h2.rc - 8 = _ ∧ h2.rs - 2560 = _; omega
  refine ⟨nn_of rfl (by rw [show h5.kd o = h.kd o from G5.kd o ol]; exact B0.k), ?_⟩
  intro h10 e10
  have F10 : Fr (fun f b => f = 106 ∧ b = o) h5.c h10.c := by rw [e10]; exact (Fr.refl h5.c).sfr _ (fun _ => ⟨rfl, rfl⟩)
  have K10 := K5.keep5 F10 (fun f a hh => .inl (by have := hh.1; omega))
  have x10 : h10.fr 106 o = some h.sz := by rw [e10, sfr_same]
  have r10 : h10.rc = h.rc - 9 ∧ h10.rs = h.rs - 2573 := by rw [e10]; exact r5
  have G10 : Fr (fun f b => f = 106 ∧ b = o) h.c h10.c := (G5.mono (fun _ _ _ hh => hh.elim)).trans F10
  rw [show ni 320 = 320 from rfl]
  refine ⟨⟨by decide, by decide, by omega, by rw [show ni 320 = 320 from rfl]; omega⟩, ?_⟩
  intro h11 e11
  have F11 : Fr W0 h10.c h11.c := by rw [e11]; exact (Fr.refl _).new _ _ _
  have z11 : h11.sz = h10.sz + 1 := by rw [e11]; rfl
  have r11 : h11.rc = h.rc - 10 ∧ h11.rs = h.rs - 2893 := by rw [e11]; show h10.rc - 1 = _ ∧ h10.rs - 320 = _; omega
  refine ⟨⟨by decide, by decide, by omega, by rw [show ni 320 = 320 from rfl]; omega⟩, ?_⟩
  intro h12 e12
  have F12 : Fr W0 h10.c h12.c := by rw [e12]; exact F11.new _ _ _
  have z12 : h12.sz = h10.sz + 2 := by rw [e12]; show h11.sz + 1 = _; omega
  have r12 : h12.rc = h.rc - 11 ∧ h12.rs = h.rs - 3213 := by rw [e12]; show h11.rc - 1 = _ ∧ h11.rs - 320 = _; omega
  obtain ⟨wa, ewa⟩ : ∃ wa, wa = h10.sz := ⟨_, rfl⟩
  obtain ⟨du, edu⟩ : ∃ du, du = h11.sz := ⟨_, rfl⟩
  rw [← ewa, ← edu]
  have kwa : h12.kd wa = (40, 320) := by rw [e12, new_kd, if_neg (by omega), e11, new_kd, if_pos ewa]
  have kdu : h12.kd du = (42, 320) := by rw [e12, new_kd, if_pos edu]
  have z10 : h.sz ≤ h10.sz := G10.sz
  have no0 : ∀ a, ¬ ((0 : Nat) = 106 ∧ a = o) := fun a hh => by omega
  have l5 : tu' < h5.c.sz ∧ un' < h5.c.sz := ⟨R5.Tr.l1, R5.Tr.l2⟩
  have l10 : tu' < h10.sz ∧ un' < h10.sz := ⟨Nat.lt_of_lt_of_le l5.1 F10.sz, Nat.lt_of_lt_of_le l5.2 F10.sz⟩
  have HR0 := HR tu' un' (by omega) (by omega)
  have eI' : istO A.g V' gv = V'.ist A.g gv CH.W WF' CH.Y := istO_eq CH.W WF' CH.Y
  have IS' := istO_I gv CH.W WF' CH.Y
  have IS := istO_I gv CH.W G.K.WF CH.Y
  generalize hS0 : istO A.g V gv = S0 at *
  obtain ⟨due, hdue⟩ : ∃ due : Nat → Prop, due = fun i => V'.is A.g i ∧ gDue S0 k (sz k) P.V.n (A.g.ins (V.sm A.g k)) i := ⟨_, rfl⟩
  have h8n : 8 * V'.n ≤ 320 := by omega
  refine xlp_cnt (8 * V'.n) (fun i q T => q = I i ∧ Fr W0 h10.c T.c ∧ T.kd wa = (40, 320) ∧ T.kd du = (42, 320) ∧ T.sz = h12.sz ∧ T.rc = h12.rc ∧ T.rs = h12.rs ∧ (∀ j, j < i → V'.is A.g j → (gNew k P.V.n j → T.ai wa j < 0) ∧ (¬ gNew k P.V.n j → T.ai wa j = I (sgU k (sz k) P.V.n j))) ∧ (∀ j, j < i → T.ai du j = iP (due j))) ⟨rfl, F12, kwa, kdu, rfl, rfl, rfl, fun j hj => absurd hj (Nat.not_lt_zero _), fun j hj => absurd hj (Nat.not_lt_zero _)⟩ ?_
  rintro i q T KK hi ⟨eq, FT, tkw, tkd, tz', tc, ts, twa, tdu⟩ hK
  have GT : Fr (fun f b => f = 106 ∧ b = o) h.c T.c := G10.trans' FT (fun _ _ _ hh => hh.elim)
  have KT := K10.keep5 FT (fun _ _ hh => hh.elim)
  have TT := KT.I.K.R
  have CT := CH.keep GT (fun f a hh => .inl (by omega))
  have x6T : T.fr 106 o = some h.sz := (FT.fr 106 o (by show o < h10.sz; omega) id).trans x10
  have m7 : T.fi 1700 h.sz = I (8 * V'.n) := KT.I.m
  rw [eq, x6T, adr_some, m7]
  refine ⟨nn_of rfl TT.xk, nn_of rfl KT.I.K.J.k, ?_⟩
  by_cases ei : i = 8 * V'.n
  · -- what is due is reckoned
    subst ei
    clear hK
    refine brT ((I_le (by omega) (by omega)).2 (Nat.le_refl _)) ⟨2, 640, ⟨by omega, by omega⟩, ?_⟩
    have HR13 : HadR T.c i0 B.kn tu un tu' un' := by
      refine ⟨by rw [GT.kd _ HR0.l]; exact HR0.k, Nat.lt_of_lt_of_le HR0.l GT.sz, ?_, ?_, ?_, by rw [GT.kd _ HR0.l1]; exact HR0.k1, by rw [GT.kd _ HR0.l2]; exact HR0.k2, by rw [GT.kd _ HR0.l3]; exact HR0.k3, Nat.lt_of_lt_of_le HR0.l1 GT.sz, Nat.lt_of_lt_of_le HR0.l2 GT.sz, Nat.lt_of_lt_of_le HR0.l3 GT.sz, HR0.n1, HR0.n2, HR0.n3⟩
      · rw [GT.fr _ _ HR0.l (fun hh => by omega)]; exact HR0.f1
      · rw [GT.fr _ _ HR0.l (fun hh => by omega)]; exact HR0.f2
      · rw [GT.fr _ _ HR0.l (fun hh => by omega)]; exact HR0.f3
    obtain ⟨old, hold'⟩ : ∃ old : Vl, old = fun y => h.ai (D.va (y / 8)) (y % 8) := ⟨_, rfl⟩
    have Va : VaR T.c D V' old := fun j a hj ha => by
      rw [GT.ai _ (TR.nd j hj).vl (no0 _), hold']
      show h.ai (D.va j) a = h.ai (D.va ((8 * j + a) / 8)) ((8 * j + a) % 8)
      rw [show (8 * j + a) / 8 = j by omega, show (8 * j + a) % 8 = a by omega]
    have hol : ∀ y, V'.is A.g y → ¬ gNew k P.V.n y → old y = S0.val (sgU k (sz k) P.V.n y) := fun y hy hn => by rw [hold']; exact hold y hy hn
    have dnd : ∀ i, (istO A.g V' gv).V i → (∀ j, j ∈ cls (istO A.g V' gv).E (istO A.g V' gv).M i → ¬ due j) → ∀ j, j ∈ cls (istO A.g V' gv).E (istO A.g V' gv).M i → ¬ gDue S0 k (sz k) P.V.n (A.g.ins (V.sm A.g k)) j := fun i hi hn j hj hd => by
      refine hn j hj ?_
      rw [hdue]
      exact ⟨(IS'.vv j).1 ((istO A.g V' gv).cls_V hi hj), hd⟩
    refine px_reckonsDue (h := T.srm 2 640) CH.W WF' CH.Y dv KT Va (due := due) (nw := gNew k P.V.n) (σ := sgU k (sz k) P.V.n) (otn := fun i => S0.tn (sgU k (sz k) P.V.n i)) (ous := fun i => S0.us (sgU k (sz k) P.V.n i)) tkd (by show du < T.sz; omega) (by omega) (fun i hi => tdu i hi) tkw (by show wa < T.sz; omega) (by omega) ?_ HR13 ?_ ?_ ?_ (Nat.le_refl _) (Nat.le_refl _) ?_
    · intro i hi
      have hlt := WF'.isLt hi
      refine ⟨fun hn => (twa i hlt hi).1 hn, fun hn => ⟨(twa i hlt hi).2 hn, ?_⟩⟩
      have := G.K.WF.isLt (G.vis hi hn)
      omega
    · intro i hi htr hnt
      have hiV : (istO A.g V' gv).V i := (IS'.vv i).2 hi
      have nd : ∀ j, j ∈ cls (istO A.g V' gv).E (istO A.g V' gv).M i → ¬ due j := fun j hj hd => hnt ⟨j, by rw [← eI']; exact hj, .inl hd⟩
      have nd2 := dnd i hiV nd
      obtain ⟨c1, c2, c3⟩ := G.keep IS IS' hiV nd2
      have hkt := (due_kt (nd2 i ((istO A.g V' gv).cls_self hiV))).1
      have hi0 := G.vis hi hkt
      have hlt := G.K.WF.isLt hi0
      obtain ⟨q, q1, q2⟩ := F0.a _ hi0
      have h320 := F0.n
      have htr' : Trc (istO A.g V' gv).E i i := by rw [IS'.ee]; exact htr
      have ht0 := c2.1 htr'
      rw [IS.ee] at ht0
      have hkt' : s.kt q = true := (F0.f _ q q2).2 ht0
      obtain ⟨b1, b2⟩ := N.b _ q q2 q1 hkt'
      refine ⟨q, by omega, ?_, ?_, ?_⟩
      · rw [show (T.srm 2 640).ai B.kn = h.ai B.kn from GT.ai _ HR0.l1 (no0 _), show h.ai B.kn (sgU k (sz k) P.V.n i) = oI (s.kn (sgU k (sz k) P.V.n i)) from hkn _ hlt, q2]; rfl
      · rw [show (T.srm 2 640).ai tu = h.ai tu from GT.ai _ HR0.l2 (no0 _)]; exact b1
      · rw [show (T.srm 2 640).ai un = h.ai un from GT.ai _ HR0.l3 (no0 _)]; exact b2
    · intro y hy hn
      rw [hdue]
      exact ⟨hy, .inr (.inr (.inl hn))⟩
    · rw [← eI']
      intro i hiV nd hout
      exact G.stays IS IS' hol hiV (dnd i hiV nd) hout
    · intro h19 w F19 V19 N19 n110 n111 _ _ h20 e20
      have c20 : h20.c = h19.c := by rw [e20]; rfl
      have F20 : Fr (WD D V' tu' un' o) T.c h20.c := by rw [c20]; exact F19
      have K20 := KT.keepW F20 (fun f a hh => hh.w)
      have T20 := K20.I.K.R
      have G20 : Fr (fun f a => (a = o ∧ (f = 106 ∨ f = 110 ∨ f = 111)) ∨ (f = 0 ∧ ∃ k, k < V'.n ∧ a = D.va k)) h.c h20.c := (GT.mono (fun f a _ hh => .inl ⟨hh.2, .inl hh.1⟩)).trans' F20 (fun f b hb hh => by
        have l : b < h.sz := hb
        rcases hh with hh | hh
        · rcases hh.2 with e | e | e
          · exact .inr ⟨hh.1, e⟩
          · omega
          · omega
        · exact .inl ⟨hh.2, .inr hh.1⟩)
      have nof : ∀ f a, f ≠ 0 → (f ≠ 106 ∧ f ≠ 110 ∧ f ≠ 111) → ¬ ((a = o ∧ (f = 106 ∨ f = 110 ∨ f = 111)) ∨ (f = 0 ∧ ∃ k, k < V'.n ∧ a = D.va k)) := fun f a h1 h2 hh => by
        rcases hh with hh | hh
        · omega
        · exact h1 hh.1
      have noz : ∀ {a t m : Nat}, h.c.kd a = (t, m) → (t, m) ≠ (40, 8) → ¬ ((a = o ∧ ((0 : Nat) = 106 ∨ (0 : Nat) = 110 ∨ (0 : Nat) = 111)) ∨ ((0 : Nat) = 0 ∧ ∃ k, k < V'.n ∧ a = D.va k)) := fun {a t m} hk h8 hh => by
        rcases hh with hh | ⟨_, k, hk', e⟩
        · omega
        · have e2 := (TR.nd k hk').vk
          rw [← e, hk] at e2
          exact h8 e2
      have B20 : CbR h20.c o jn tpa := B0.keep G20 (nof _ _ (by decide) (by decide)) (nof _ _ (by decide) (by decide)) (noz B0.j2 (by decide))
      have Y20 : CtR h20.c o tpa (X.ws 0) := by
        refine ⟨?_, ?_, ?_, ?_, ?_⟩
        · rw [G20.fi _ _ B0.l (nof _ _ (by decide) (by decide))]; exact Y0.n
        · rw [G20.ai _ B0.t3 (noz B0.t2 (by decide))]; exact Y0.tt
        · rw [G20.fi _ _ B0.l (nof _ _ (by decide) (by decide))]; exact Y0.st
        · rw [G20.fi _ _ B0.l (nof _ _ (by decide) (by decide))]; exact Y0.fk
        · rw [G20.fi _ _ B0.l (nof _ _ (by decide) (by decide))]; exact Y0.fp
      have Z20 : CoR h20.c := Z0.keep' G20 (fun a => nof _ _ (by decide) (by decide)) (fun a => nof _ _ (by decide) (by decide)) (fun v hv => noz (t := (h.c.kd v).1) (m := (h.c.kd v).2) rfl (fun e => by have := (Prod.mk.inj e).1; omega))
      have CI20 : CsI h20.c := I0.keep G20 (noz I0.k (by decide)) (fun a => nof _ _ (by decide) (by decide))
      have zz' : zz ≤ h.sz := zs
      have ecg : X.cg A V' sz' gv (gDue S0 k (sz k) P.V.n (A.g.ins (V.sm A.g k))) (gNew k P.V.n) (gOld S0.val k (sz k) P.V.n) = X.cg A V' sz' gv due (gNew k P.V.n) old := by
        refine AX.cg_congr IS' (fun j hj => ?_) (fun j hj => Iff.rfl) (fun j hj hn => ?_)
        · rw [hdue]; exact ⟨fun hh => ⟨hj, hh⟩, fun hh => hh.2⟩
        · rw [hol j hj hn]
          unfold gOld sgU
          split <;> rfl
      rw [ecg] at hQ
      have e110 : h20.c.fi 110 o = I (cnP (fun i => (istO A.g V' gv).V i ∧ (istO A.g V' gv).tch due (gNew k P.V.n) old i) (istO A.g V' gv).M) := by
        rw [c20]
        have e1 : cnP (fun i => (istO A.g V' gv).V i ∧ (istO A.g V' gv).tch due (gNew k P.V.n) old i) (istO A.g V' gv).M = cnP (fun i => V'.is A.g i ∧ (V'.ist A.g gv CH.W WF' CH.Y).tch due (gNew k P.V.n) old i) (8 * V'.n) := by
          rw [IS'.mm, eI']; rfl
        rw [e1]; exact n110
      have e111 : h20.c.fi 111 o = I (cnP (fun i => (istO A.g V' gv).V i ∧ (istO A.g V' gv).chg due (gNew k P.V.n) old i) (istO A.g V' gv).M) := by
        rw [c20]
        have e1 : cnP (fun i => (istO A.g V' gv).V i ∧ (istO A.g V' gv).chg due (gNew k P.V.n) old i) (istO A.g V' gv).M = cnP (fun i => V'.is A.g i ∧ (V'.ist A.g gv CH.W WF' CH.Y).chg due (gNew k P.V.n) old i) (8 * V'.n) := by
          rw [IS'.mm, eI']; rfl
        rw [e1]; exact n111
      have hcl := cnP_le (fun i => (istO A.g V' gv).V i ∧ (istO A.g V' gv).tch due (gNew k P.V.n) old i) (istO A.g V' gv).M
      have hMM := IS'.mm
      refine hQ h20 (CRep.ofT (V := V') (sz := sz') (gv := gv) (g := g) (L := L) (z := zz) (hs := hsh) (D := D) (i := h.sz) (B := B') (tu := tu') (un := un') (s := s') (ga := ga) (v := w) ⟨ok.m, ok.b, ok.g, fun V9 s9 g9 e => ?_⟩ B20 Y20 Z20 (J0.keep G20) CI20 hg rfl ⟨?_, ?_, ?_, ?_, ?_, ?_, ?_, ?_⟩ ⟨fun e => absurd e (by simp [AX.cg, AX.an, AX.mk]), fun a b e => ?_⟩)
      · obtain ⟨e1, e2⟩ := Prod.mk.inj (Option.some.inj e)
        obtain ⟨e3, e4⟩ := Prod.mk.inj e2
        subst e1 e3 e4
        exact ⟨A, ind, hg, K', d0⟩
      · rw [G20.fr _ _ B0.l (nof _ _ (by decide) (by decide))]; exact f3
      · have : h20.c.lo = h.c.lo := by unfold HC.lo; rw [G20.bs]
        rw [this]; exact zl
      · exact Nat.le_trans zs G20.sz
      · refine C.kc zs G20 (fun f a ha hh => ?_)
        rcases hh with hh | ⟨_, k, hk, e⟩
        · exact .inl (by omega)
        · have := (z1 k hk).2.2.2
          omega
      · rw [G20.fr _ _ B0.l (nof _ _ (by decide) (by decide))]; exact f4
      · intro x sm e
        refine (H x sm e).keep G20 (fun f h1 h2 => nof _ _ (by omega) (by omega)) (fun hh => ?_)
        rcases hh with hh | ⟨_, k, hk, e2⟩
        · omega
        · exact hsm x sm e k hk e2.symm
      · refine ⟨K20, by rw [c20]; exact V19, ?_, dv, ij, ?_, ?_, rn, rm, z1, ?_⟩
        · rw [eI', c20]; exact N19
        · rw [F20.fr _ _ TT.xl (fun hh => by
            rcases hh with hh | hh
            · have := hh.1; omega
            · omega)]
          exact x6T
        · rw [G20.fr _ _ TR.tl (nof _ _ (by decide) (by decide))]; exact rt
        · exact ⟨z2.1, z2.2.1, z2.2.2.1, z2.2.2.2, by omega, by omega, by omega, by omega, by omega, by omega, by omega, by omega, by omega⟩
      · exact hsm
      · obtain ⟨e1, e2⟩ := Prod.mk.inj (Option.some.inj e)
        subst e1 e2
        exact ⟨e110, e111, by omega⟩
  -- one instance more
  have hi' : i < 8 * V'.n := by omega
  refine brF (fun hh => by have := (I_le (by omega) (by omega)).1 hh; omega) ?_
  have ed : I i / 8 = I (i / 8) := I_div (a := i) (b := 8) (by omega) (by decide)
  have er : jrem (I i) 8 = I (i % 8) := rem_L 8 (by decide) (by omega)
  have he : i / 8 < V'.n := by omega
  have aoi : T.ai oi = h.ai oi := GT.ai oi loi (no0 _)
  have kooi : T.kd oi = (40, 40) := (GT.kd oi loi).trans koi
  obtain ⟨ov, hov⟩ : ∃ ov, ov = h.ai oi (i / 8) := ⟨_, rfl⟩
  have hov' := voi (i / 8) he
  rw [← hov] at hov'
  rw [ed, er, aoi, I_ni (show i / 8 < 2147483648 by omega), I_ni (show i < 2147483648 by omega), ← hov]
  refine ⟨ix_of rfl kooi (by omega) (by decide), ?_⟩
  intro m120 em
  have hw : ((gNew k P.V.n i → m120 < 0) ∧ (¬ gNew k P.V.n i → m120 = I (sgU k (sz k) P.V.n i))) ∧ (ov < 0 ↔ gNew k P.V.n i) := by
    unfold gNew
    by_cases hn : k < i / 8 ∧ i / 8 < k + P.V.n
    · rw [if_pos hn] at hov'
      rw [hov', if_neg (by decide)] at em
      rw [hov', em]
      exact ⟨⟨fun _ => by decide, fun hh => absurd hn hh⟩, ⟨fun _ => hn, fun _ => by decide⟩⟩
    · rw [if_neg hn] at hov'
      have hb : (if i / 8 ≤ k then i / 8 else i / 8 + sz k - P.V.n) < 40 := by split <;> omega
      have hsg : sgU k (sz k) P.V.n i = 8 * (if i / 8 ≤ k then i / 8 else i / 8 + sz k - P.V.n) + i % 8 := by
        unfold sgU
        split <;> omega
      generalize (if i / 8 ≤ k then i / 8 else i / 8 + sz k - P.V.n) = jj at hov' hb hsg
      have hnn : ¬ I jj < 0 := I_nonneg (by omega)
      rw [hov', if_pos (by rw [show (0 : Int32) = I 0 from rfl]; exact (I_le (by decide) (by omega)).2 (Nat.zero_le _)), show (8 : Int32) * I jj = I (8 * jj) from I_mul 8 jj, I_add] at em
      rw [hov']
      exact ⟨⟨fun hh => absurd hh hn, fun _ => by rw [em, hsg]⟩, ⟨fun hh => absurd hh hnn, fun hh => absurd hh hn⟩⟩
  obtain ⟨⟨hw1, hw2⟩, hw3⟩ := hw
  refine ⟨ix_of rfl tkw (by omega) (by decide), ?_⟩
  intro h22 e22
  have F22 : Fr W0 h10.c h22.c := by rw [e22]; exact FT.sai _ _ (fun hh => by have h9 : wa < h10.sz := hh; omega)
  have G22 : Fr (fun f b => f = 106 ∧ b = o) h.c h22.c := G10.trans' F22 (fun _ _ _ hh => hh.elim)
  have K22 := K10.keep5 F22 (fun _ _ hh => hh.elim)
  have T22 := K22.I.K.R
  have C22 := CH.keep G22 (fun f a hh => .inl (by omega))
  have x22 : h22.fr 106 o = some h.sz := (F22.fr 106 o (by show o < h10.sz; omega) id).trans x10
  have kd22 : h22.kd = T.kd := by rw [e22]; rfl
  have awa : h22.ai wa = updN (T.ai wa) i m120 := by rw [e22, sai_ai, if_pos rfl]
  have adu : h22.ai du = T.ai du := by rw [e22, sai_ai, if_neg (by omega)]
  have kdu22 : h22.kd du = (42, 320) := by rw [kd22]; exact tkd
  have kwa22 : h22.kd wa = (40, 320) := by rw [kd22]; exact tkw
  rw [x22, adr_some]
  refine ⟨nn_of rfl K22.I.K.J.k, px_is (h := h22.srm 0 0) CH.W WF' C22.X.S T22 K22.I.K.J hi' (pu ?_)⟩
  -- the rest of a turn
  have step : ∀ (b : Prop) (h28 : AH), (b ↔ due i) → h28 = h22.sai du i (vp_nar .boolean (iP b)) → KK (I i + 1) h28 := by
    intro b h28 hb e28
    rw [iP_nar, iP_congr hb] at e28
    refine hK _ _ hi' ⟨I_add i 1, by rw [e28]; exact F22.sai _ _ (fun hh => by have h9 : du < h10.sz := hh; omega), by rw [e28]; exact kwa22, by rw [e28]; exact kdu22, by rw [e28, e22]; exact tz', by rw [e28, e22]; exact tc, by rw [e28, e22]; exact ts, fun j hj hjs => ?_, fun j hj => ?_⟩
    · rw [e28, sai_ai, if_neg (by omega), awa]
      by_cases e : j = i
      · rw [e, updN_same]; exact ⟨hw1, hw2⟩
      · rw [updN_ne _ _ e]; exact twa j (by omega) hjs
    · rw [e28, sai_ai, if_pos rfl]
      by_cases e : j = i
      · rw [e, updN_same]
      · rw [updN_ne _ _ e, adu]; exact tdu j (by omega)
  have one1 : ∀ b : Prop, b → (1 : Int32) = iP b := fun b hb => (iP_pos hb).symm
  by_cases his : V'.is A.g i
  rotate_left
  · rw [if_neg his]
    refine brT rfl ⟨ix_of rfl kdu22 (by omega) (by decide), ?_⟩
    intro h28 e28
    refine step False h28 ⟨fun hh => hh.elim, fun hh => ?_⟩ (by rw [iP_neg id]; exact e28)
    rw [hdue] at hh
    exact his hh.1
  rw [if_pos his]
  refine brF (by decide) ?_
  by_cases hn : gNew k P.V.n i
  · refine brT (hw3.2 hn) ⟨ix_of rfl kdu22 (by omega) (by decide), ?_⟩
    intro h28 e28
    refine step True h28 ⟨fun _ => ?_, fun _ => trivial⟩ (by rw [iP_pos trivial]; exact e28)
    rw [hdue]
    exact ⟨his, .inr (.inr (.inl hn))⟩
  refine brF (fun hh => hn (hw3.1 hh)) ?_
  have hi0 := G.vis his hn
  have hlt0 := G.K.WF.isLt hi0
  have h320 := F0.n
  obtain ⟨q0, hq0, eq0⟩ := F0.a _ hi0
  have htie := ktQ_tie (k := k) (m := sz k) CH.W G.K.WF IS F0 hi0 eq0
  have gd := gDue_is (k := k) (S0 := S0) (s := sz k) (m := P.V.n) (c := A.g.ins (V.sm A.g k)) (i := i) m1 hn
  have Nk := T22.nd k hkn'
  have e52 : h22.fi 1502 (D.r k) = I k := Nk.ix
  have esm : V'.sm A.g k = V.sm A.g k := by
    have := G.sm (j := k) (.inl (Nat.le_refl _))
    rw [rnU_le (Nat.le_refl _)] at this
    exact this
  have hsm' := WF'.smS CH.W hkn'
  have SY := C22.X.S.sy _ hsm'
  have e602 : h22.fi 602 (L.sa (V'.sm A.g k)) = I (A.g.ins (V.sm A.g k)) := by rw [← esm]; exact SY.ins
  have hins := CH.W.ins _ hsm'
  rw [esm] at hins
  -- what was in a knot that goes
  have isout : nn h22 (some i0) 17 ∧ ix h22 (some wa) 40 (I i) ∧ ix h22 (h22.fr 1701 (adr (some i0))) 40 (h22.ai wa (ni (I i))) ∧ ix h22 (some a0) 42 (h22.ai (adr (h22.fr 1701 (adr (some i0)))) (ni (h22.ai wa (ni (I i))))) ∧
      ∀ m : Int32, m = (if (h22.ai (adr (some a0)) (ni (h22.ai (adr (h22.fr 1701 (adr (some i0)))) (ni (h22.ai wa (ni (I i))))))) = 0 then 0 else 1) → m = iP (ktQ A V s k (8 * (k + sz k)) q0) := by
    have fk : h22.fr 1701 i0 = some B.kn := (G22.fr _ _ HR0.l (fun hh => by omega)).trans HR0.f1
    have kkn : h22.kd B.kn = (40, 320) := (G22.kd _ HR0.l1).trans HR0.k1
    have akn : h22.ai B.kn (sgU k (sz k) P.V.n i) = I q0 := by
      rw [show h22.ai B.kn = h.ai B.kn from G22.ai _ HR0.l1 (no0 _), show h.ai B.kn (sgU k (sz k) P.V.n i) = oI (s.kn (sgU k (sz k) P.V.n i)) from hkn _ hlt0, eq0]; rfl
    have kka : h22.kd a0 = (42, 320) := (G22.kd a0 la0).trans ka0
    have aaa : h22.ai a0 q0 = iP (ktQ A V s k (8 * (k + sz k)) q0) := by
      rw [show h22.ai a0 = h.ai a0 from G22.ai a0 la0 (no0 _)]; exact va0 q0 (by omega)
    rw [adr_some, adr_some, fk, adr_some, I_ni (by omega), awa, updN_same, hw2 hn, I_ni (show sgU k (sz k) P.V.n i < 2147483648 by omega), akn, I_ni (show q0 < 2147483648 by omega), aaa]
    refine ⟨nn_of rfl (by show (h22.c.kd i0).1 = 17; rw [G22.kd _ HR0.l]; exact HR0.k), ix_of rfl kwa22 (by omega) (by decide), ix_of rfl kkn (by omega) (by decide), ix_of rfl kka (by omega) (by decide), fun m hm => (bz_iP hm).1⟩
  obtain ⟨o1, o2, o3, o4, o5⟩ := isout
  rw [adr_some (D.r k), e52]
  refine ⟨nn_of rfl Nk.k, ?_⟩
  by_cases ek : i / 8 = k
  · refine brT (by rw [ek]) (px_kind (h := h22.srm 0 0) WF' CH.W C22.X.S T22 hkn' (pu ⟨nn_of rfl SY.k, ?_⟩))
    rw [adr_some (L.sa (V'.sm A.g k)), e602]
    by_cases hins2 : A.g.ins (V.sm A.g k) ≤ i % 8
    · refine brT ((I_le (by omega) (by omega)).2 hins2) ⟨ix_of rfl kdu22 (by omega) (by decide), ?_⟩
      intro h28 e28
      refine step True h28 ⟨fun _ => ?_, fun _ => trivial⟩ (by rw [iP_pos trivial]; exact e28)
      rw [hdue]
      exact ⟨his, gd.2 (.inl ⟨ek, hins2⟩)⟩
    · refine brF (fun hh => hins2 ((I_le (by omega) (by omega)).1 hh)) ?_
      have o1' := o1
      refine ⟨o1, ?_⟩
      rw [I_ni (show i < 2147483648 by omega)] at o3 o4 o5
      refine ⟨o2, o3, o4, ?_⟩
      intro m em2
      refine ⟨ix_of rfl kdu22 (by omega) (by decide), ?_⟩
      intro h28 e28
      rw [o5 m em2] at e28
      refine step _ h28 ?_ e28
      rw [hdue]
      constructor
      · intro hh
        exact ⟨his, gd.2 (.inr (htie.1 hh))⟩
      · intro hh
        rcases gd.1 hh.2 with h1 | h1
        · exact absurd h1.2 hins2
        · exact htie.2 h1
  · refine brF (fun hh => ek ((I_eq (by omega) (by omega)).1 hh)) ?_
    rw [I_ni (show i < 2147483648 by omega)] at o3 o4 o5
    refine ⟨o1, o2, o3, o4, ?_⟩
    intro m em2
    refine ⟨ix_of rfl kdu22 (by omega) (by decide), ?_⟩
    intro h28 e28
    rw [o5 m em2] at e28
    refine step _ h28 ?_ e28
    rw [hdue]
    constructor
    · intro hh
      exact ⟨his, gd.2 (.inr (htie.1 hh))⟩
    · intro hh
      rcases gd.1 hh.2 with h1 | h1
      · exact absurd h1.1 ek
      · exact htie.2 h1
end
