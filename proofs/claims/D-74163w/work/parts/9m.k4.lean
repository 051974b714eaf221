/-! plain: k4 -/
set_option maxRecDepth 100000
section
variable {h : AH} {s v : Nat} {w : List Nat}

theorem fits_lo {b : Nat} (hb : b < 128) : fits .byte (.int (I b)) = true := by
  have key : ∀ b : Fin 128, fits .byte (.int (I b.1)) = true := by decide +kernel
  exact key ⟨b, hb⟩
theorem pc_toString (S : SbR h.c s v w) (hlo : h.lo ≤ h.sz) (hr : 2 ≤ h.rc) (hs : 4 + w.length ≤ h.rs) {Q : Option Nat → AH → Prop} (hQ : ∀ h', Fr W0 h.c h'.c → StR h'.c h.sz (h.sz + 1) w → HsR h'.c h.sz w → h'.sz = h.sz + 2 → h'.rc = h.rc - 2 → h'.rs = h.rs - 4 - w.length → Q (some h.sz) h') : wp_J1_toString s h Q := by
  have wl := S.wl
  have hsz : s < h.sz := S.l
  have vsz : v < h.sz := S.vl
  unfold wp_J1_toString
  refine ⟨⟨by omega, by omega⟩, ?_⟩
  intro h1 e1
  have F1 : Fr W0 h.c h1.c := by rw [e1]; exact (Fr.refl _).new _ _ _
  have s1 : h1.sz = h.sz + 1 := by rw [e1]; rfl
  have rc1 : h1.rc = h.rc - 1 := by rw [e1]; rfl
  have rs1 : h1.rs = h.rs - 4 := by rw [e1]; rfl
  have S1 := S.keep F1 (fun hh => hh) (fun hh => hh) (fun hh => hh) (fun hh => hh)
  have kz1 : (h1.kd h.sz).1 = 22 := by rw [e1, new_kd, if_pos rfl]
  have lo1 : h1.lo = h.lo := by rw [e1]; rfl
  have z1 : ∀ f, h1.fi f h.sz = 0 := fun f => by rw [e1, new_fi, if_pos rfl]
  refine ⟨1, w.length, ⟨by omega, by omega⟩, ?_⟩
  dsimp only
  unfold wp_J2_init
  refine ⟨1, w.length, ⟨Nat.le_refl _, Nat.le_refl _⟩, ?_⟩
  dsimp only
  unfold wp_J2_init_2
  refine ⟨nn_of rfl S1.k, nn_of rfl S1.k, ?_⟩
  intro h4 e4
  have e4' : h4 = h1.srm 1 w.length := by rw [e4]; rfl
  rw [e4', adr_some, show (((h1.srm 1 w.length).srm 1 w.length).srm 0 0).fr 2100 s = some v from S1.vr]
  refine ⟨nn_of rfl S1.k, nn_of rfl S1.k, nn_of rfl S1.k, ?_⟩
  intro h7 e7
  have e7' : h7 = (h1.srm 1 w.length).srm 0 0 := by rw [e7]; rfl
  rw [e7']
  intro h8 e8
  have e8' : h8 = h1.srm 1 w.length := by rw [e8]; rfl
  rw [e8', show ((((h1.srm 1 w.length).srm 0 0).srm 0 0).fi 2103 s) = I w.length from S1.n]
  refine ⟨nn_of rfl S1.k, nn_of rfl S1.k, ?_⟩
  intro m2 e2
  rw [show (((h1.srm 1 w.length).srm 0 0).fi 2101 s) = 0 from S1.co, if_pos rfl] at e2
  rw [e2]
  refine ⟨.inr rfl, ?_⟩
  intro h12 e12
  have e12' : h12 = h1.srm 1 w.length := by rw [e12]; rfl
  rw [e12']
  refine brF (by decide) ⟨nn_of rfl kz1, by show h1.lo ≤ h.sz; rw [lo1]; exact hlo, ?_⟩
  intro h40 e40
  have F40 : Fr (fun f a => a = h.sz) h1.c h40.c := by rw [e40]; exact Fr.sfi (h := h1.srm 1 w.length) (Fr.refl _) _ (fun _ => rfl)
  have c40 : h40.rc = 1 ∧ h40.rs = w.length ∧ h40.sz = h.sz + 1 := by rw [e40]; exact ⟨rfl, rfl, s1⟩
  have S40 := S1.keep F40 (by omega) (by omega) (by omega) (by omega)
  have k40 : h40.kd v = (41, 16) := S40.vk
  refine ⟨1, w.length, ⟨by rw [c40.1]; exact Nat.le_refl _, by rw [c40.2.1]; exact Nat.le_refl _⟩, ?_⟩
  dsimp only
  unfold wp_J6_copyOfRange
  have kd4 : (h40.srm 1 w.length).kd v = (41, 16) := k40
  refine brT rfl ⟨nn_of rfl (by rw [kd4]), ?_⟩
  rw [adr_some, kd4]
  refine brF (fun hh => by have h9 : w.length = 16 := (I_eq (b := 16) (by omega) (by omega)).1 hh; omega) ⟨1, w.length, ⟨Nat.le_refl _, Nat.le_refl _⟩, ?_⟩
  dsimp only
  unfold wp_J6_copyOfRangeByte
  refine ⟨0, 0, ⟨Nat.zero_le _, Nat.zero_le _⟩, ?_⟩
  dsimp only
  unfold wp_J6_checkLength
  refine brT (show (0 : Int32) ≤ I w.length from zero_le_I (by omega)) ?_
  intro h3 e3
  have e3' : h3 = h40.srm 1 w.length := by rw [e3]; rfl
  have ez : I w.length - 0 = I w.length := Int32.sub_zero _
  rw [e3', ez, I_ni (by omega)]
  refine ⟨⟨I_nonneg (by omega), by rw [I_ni (by omega)]; omega, Nat.le_refl _, by rw [I_ni (by omega)]; exact Nat.le_refl _⟩, ?_⟩
  intro h70 e70
  have sz4 : (h40.srm 1 w.length).sz = h.sz + 1 := c40.2.2
  have F70 : Fr (fun f a => a = h.sz) h1.c h70.c := by rw [e70]; exact Fr.new (h := h40.srm 1 w.length) F40 _ _ _
  have S70 := S1.keep F70 (by omega) (by omega) (by omega) (by omega)
  have k70 : h70.kd v = (41, 16) := S70.vk
  have kn70 : h70.kd (h.sz + 1) = (41, w.length) := by rw [e70, new_kd, sz4, if_pos rfl]
  rw [sz4, adr_some, k70]
  have emin : (if I w.length < (nI 16 - 0) then I w.length else (nI 16 - 0)) = I w.length := by
    rw [show nI 16 - 0 = I 16 by decide, if_pos ((I_lt (by omega) (by omega)).2 (by omega))]
  rw [emin, I_ni (by omega)]
  refine ⟨nn_of rfl (by rw [k70]), ⟨v, h.sz + 1, rfl, rfl, by rw [k70], by rw [kn70], by decide, by decide, I_nonneg (by omega), by rw [k70, I_ni (by omega)]; show 0 + w.length ≤ 16; omega, by rw [kn70, I_ni (by omega)]; show 0 + w.length ≤ w.length; omega⟩, ?_, fun i hi => ?_, ?_⟩
  · have : h70.lo = h.lo := by
      have b1 := F70.bs
      show h70.bs.1 = h.lo
      rw [show h70.bs = h1.bs from b1]; exact lo1
    rw [this]; omega
  · rw [show h70.ai v (ni 0 + i) = I (w.getD (ni 0 + i) 0) from S70.vv _ (by show 0 + i < w.length; omega)]
    exact fits_lo (getD_lt S.b8 _)
  · intro h9 e9 h14 e14 h43 e43
    have F9 : Fr (fun f a => a = h.sz) h1.c h9.c := by
      rw [e9]
      exact F70.wai _ (fun hh => by have h8 : h.sz + 1 < h1.sz := hh; omega)
    have a9 : h9.ai (h.sz + 1) = va_cpy (h70.ai v) (h70.ai (h.sz + 1)) (ni 0) (ni 0) w.length := by rw [e9, wai_at]
    have z9 : h9.sz = h.sz + 2 := by rw [e9]; show h70.sz = _; rw [e70, new_sz, sz4]
    have e43' : h43.c = h9.c := by rw [e43, e14]; rfl
    refine ⟨nn_of rfl ?_, ?_, ?_⟩
    · show (h43.c.kd h.sz).1 = 22
      rw [e43', F9.kd h.sz (by show h.sz < h1.sz; omega)]; exact kz1
    · show h43.c.lo ≤ h.sz
      have : h43.c.lo = h.lo := by unfold HC.lo; rw [e43', F9.bs]; exact lo1
      rw [this]; exact hlo
    intro h48 e48 h20 e20 h21 e21
    have c21 : h21.c = (h43.sfr 2200 h.sz (some (h.sz + 1))).c := by rw [e21, e20, e48]; rfl
    have F48 : Fr (fun f a => a = h.sz) h1.c h21.c := by
      rw [c21]
      refine Fr.sfr ?_ _ (fun _ => rfl)
      rw [e43']; exact F9
    have Fall : Fr W0 h.c h21.c := F1.trans' F48 (fun f a ha hh => by have h8 : a < h.sz := ha; omega)
    have sz21 : h21.sz = h.sz + 2 := by
      have : h21.c.sz = h43.c.sz := by rw [c21]; rfl
      show h21.c.sz = _
      rw [this, e43']; exact z9
    refine hQ h21 Fall ⟨?_, ?_, ?_, ?_, ?_, ?_, ?_, by omega, S.b8⟩ ⟨?_, .inl ⟨?_, ?_⟩⟩ sz21 ?_ ?_
    · rw [F48.kd h.sz (by show h.sz < h1.sz; omega)]; exact kz1
    · show h.sz < h21.sz; omega
    · rw [c21]; show (h43.sfr 2200 h.sz (some (h.sz + 1))).fr 2200 h.sz = _; rw [sfr_same]
    · rw [c21]; show h43.c.kd (h.sz + 1) = _; rw [e43', e9]; exact kn70
    · show h.sz + 1 < h21.sz; omega
    · intro i hi
      rw [c21]; show h43.c.ai (h.sz + 1) i = _
      rw [e43']; show h9.ai (h.sz + 1) i = _
      rw [a9]
      unfold va_cpy
      rw [if_pos ⟨Nat.zero_le _, by show i < 0 + w.length; omega⟩, show h70.ai v (ni 0 + (i - ni 0)) = I (w.getD (ni 0 + (i - ni 0)) 0) from S70.vv _ (by show 0 + (i - 0) < w.length; omega)]
      rw [show ni 0 + (i - ni 0) = i by show 0 + (i - 0) = i; omega]
    · rw [c21]; show h43.c.fi 2201 h.sz = 0
      rw [e43', e9]; show h70.fi 2201 h.sz = 0
      rw [e70, new_fi, sz4, if_neg (by omega)]; show h40.fi 2201 h.sz = 0
      rw [e40, sfi_same]
    · have : h21.c.lo = h.lo := by unfold HC.lo; rw [Fall.bs]; rfl
      rw [this]; exact hlo
    · rw [c21]; show h43.c.fi 2202 h.sz = 0
      rw [e43', e9]; show h70.fi 2202 h.sz = 0
      rw [e70, new_fi, sz4, if_neg (by omega)]; show h40.fi 2202 h.sz = 0
      rw [e40]; show ((h1.srm 1 w.length).sfi 2201 h.sz 0).fi 2202 h.sz = 0
      rw [sfi_ne _ (F := 2201) h.sz 0 h.sz (by decide)]; exact z1 2202
    · rw [c21]; show h43.c.fi 2203 h.sz = 0
      rw [e43', e9]; show h70.fi 2203 h.sz = 0
      rw [e70, new_fi, sz4, if_neg (by omega)]; show h40.fi 2203 h.sz = 0
      rw [e40]; show ((h1.srm 1 w.length).sfi 2201 h.sz 0).fi 2203 h.sz = 0
      rw [sfi_ne _ (F := 2201) h.sz 0 h.sz (by decide)]; exact z1 2203
    · rw [e21]; show h1.rc - 1 = _; omega
    · rw [e21]; show h1.rs - w.length = _; omega
end
