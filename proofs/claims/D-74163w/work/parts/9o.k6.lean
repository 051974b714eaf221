/-! plain: k6 -/
set_option maxRecDepth 100000
section
variable {h : AH} {s v : Nat}
theorem pc_toStringHi (S : SuR h.c s v) (hlo : h.lo ≤ h.sz) (hr : 2 ≤ h.rc) (hs : 6 ≤ h.rs) {Q : Option Nat → AH → Prop} (hQ : ∀ h', Fr W0 h.c h'.c → (h'.kd h.sz).1 = 22 → h'.sz = h.sz + 2 → h'.rc = h.rc - 2 → h'.rs = h.rs - 6 → Q (some h.sz) h') : wp_J1_toString s h Q := by
  have hsz : s < h.sz := S.l
  have vsz : v < h.sz := S.vl
  unfold wp_J1_toString
  refine ⟨⟨by omega, by omega⟩, ?_⟩
  intro h1 e1
  have F1 : Fr W0 h.c h1.c := by rw [e1]; exact (Fr.refl _).new _ _ _
  have s1 : h1.sz = h.sz + 1 := by rw [e1]; rfl
  have rc1 : h1.rc = h.rc - 1 := by rw [e1]; rfl
  have rs1 : h1.rs = h.rs - 4 := by rw [e1]; rfl
  have S1 := S.keep F1 (fun hh => hh) (fun hh => hh) (fun hh => hh) (fun hh => hh) (fun hh => hh)
  have kz1 : (h1.kd h.sz).1 = 22 := by rw [e1, new_kd, if_pos rfl]
  have lo1 : h1.lo = h.lo := by rw [e1]; rfl
  clear e1
  refine ⟨1, 2, ⟨by omega, by omega⟩, ?_⟩
  dsimp only
  unfold wp_J2_init
  refine ⟨1, 2, ⟨Nat.le_refl _, Nat.le_refl _⟩, ?_⟩
  dsimp only
  unfold wp_J2_init_2
  refine ⟨nn_of rfl S1.k, nn_of rfl S1.k, ?_⟩
  intro h4 e4
  have e4' : h4 = h1.srm 1 2 := by rw [e4]; rfl
  rw [e4', adr_some, show (((h1.srm 1 2).srm 1 2).srm 0 0).fr 2100 s = some v from S1.vr]
  refine ⟨nn_of rfl S1.k, nn_of rfl S1.k, nn_of rfl S1.k, ?_⟩
  intro h7 e7
  have e7' : h7 = (h1.srm 1 2).srm 0 0 := by rw [e7]; rfl
  rw [e7']
  intro h8 e8
  have e8' : h8 = h1.srm 1 2 := by rw [e8]; rfl
  rw [e8', show ((((h1.srm 1 2).srm 0 0).srm 0 0).fi 2103 s) = I 1 from S1.n]
  refine ⟨nn_of rfl S1.k, nn_of rfl S1.k, ?_⟩
  intro m2 e2
  rw [show (((h1.srm 1 2).srm 0 0).fi 2101 s) = 1 from S1.co, if_neg (by decide)] at e2
  rw [e2]
  refine ⟨.inl rfl, ?_⟩
  intro h12 e12
  have e12' : h12 = h1.srm 1 2 := by rw [e12]; rfl
  rw [e12']
  refine brT rfl ⟨nn_of rfl S1.k, brT (show (h1.srm 1 2).fi 2102 s = 0 from S1.ml) ⟨nn_of rfl kz1, by show h1.lo ≤ h.sz; rw [lo1]; exact hlo, ?_⟩⟩
  rw [show jshl (I 1) 1 = 2 by decide]
  intro h40 e40
  have F40 : Fr (fun f a => a = h.sz) h1.c h40.c := by rw [e40]; exact Fr.sfi (h := h1.srm 1 2) (Fr.refl _) _ (fun _ => rfl)
  have c40 : h40.rc = 1 ∧ h40.rs = 2 ∧ h40.sz = h.sz + 1 := by rw [e40]; exact ⟨rfl, rfl, s1⟩
  have S40 := S1.keep F40 (by omega) (by omega) (by omega) (by omega) (by omega)
  have k40 : h40.kd v = (41, 32) := S40.vk
  clear e40
  refine ⟨1, 2, ⟨by rw [c40.1]; exact Nat.le_refl _, by rw [c40.2.1]; exact Nat.le_refl _⟩, ?_⟩
  dsimp only
  unfold wp_J6_copyOfRange
  have kd4 : (h40.srm 1 2).kd v = (41, 32) := k40
  refine brT rfl ⟨nn_of rfl (by rw [kd4]), ?_⟩
  rw [adr_some, kd4]
  refine brF (by decide) ⟨1, 2, ⟨Nat.le_refl _, Nat.le_refl _⟩, ?_⟩
  dsimp only
  unfold wp_J6_copyOfRangeByte
  refine ⟨0, 0, ⟨Nat.zero_le _, Nat.zero_le _⟩, ?_⟩
  dsimp only
  unfold wp_J6_checkLength
  refine brT (by decide) ?_
  intro h3 e3
  have e3' : h3 = h40.srm 1 2 := by rw [e3]; rfl
  rw [e3', show (2 : Int32) - 0 = 2 by decide, show ni (2 : Int32) = 2 from rfl]
  refine ⟨⟨by decide, by decide, Nat.le_refl _, Nat.le_refl _⟩, ?_⟩
  intro h70 e70
  have sz4 : (h40.srm 1 2).sz = h.sz + 1 := c40.2.2
  have F70 : Fr (fun f a => a = h.sz) h1.c h70.c := by rw [e70]; exact Fr.new (h := h40.srm 1 2) F40 _ _ _
  have S70 := S1.keep F70 (by omega) (by omega) (by omega) (by omega) (by omega)
  have k70 : h70.kd v = (41, 32) := S70.vk
  have kn70 : h70.kd (h.sz + 1) = (41, 2) := by rw [e70, new_kd, sz4, if_pos rfl]
  have s70 : h70.sz = h.sz + 2 := by rw [e70, new_sz, sz4]
  clear e70
  rw [sz4, adr_some, k70]
  rw [show (if (2 : Int32) < (nI 32 - 0) then (2 : Int32) else (nI 32 - 0)) = 2 by decide, show ni (2 : Int32) = 2 from rfl]
  refine ⟨nn_of rfl (by rw [k70]), ⟨v, h.sz + 1, rfl, rfl, by rw [k70], by rw [kn70], by decide, by decide, by decide, by rw [k70]; show 0 + 2 ≤ 32; omega, by rw [kn70]; show 0 + 2 ≤ 2; omega⟩, ?_, fun i hi => ?_, ?_⟩
  · have : h70.lo = h.lo := by
      have b1 := F70.bs
      show h70.bs.1 = h.lo
      rw [show h70.bs = h1.bs from b1]; exact lo1
    rw [this]; omega
  · exact S70.vv _ (by show 0 + i < 2; omega)
  · intro h9 e9 h14 e14 h43 e43
    have F9 : Fr (fun f a => a = h.sz) h1.c h9.c := by
      rw [e9]
      exact F70.wai _ (fun hh => by have h8 : h.sz + 1 < h1.sz := hh; omega)
    have z9 : h9.sz = h.sz + 2 := by rw [e9]; exact s70
    have e43' : h43.c = h9.c := by rw [e43, e14]; rfl
    refine ⟨nn_of rfl ?_, ?_, ?_⟩
    · show (h43.c.kd h.sz).1 = 22
      rw [e43', F9.kd h.sz (by show h.sz < h1.sz; omega)]; exact kz1
    · show h43.c.lo ≤ h.sz
      have : h43.c.lo = h.lo := by unfold HC.lo; rw [e43', F9.bs]; exact lo1
      rw [this]; exact hlo
    intro h48 e48 h20 e20 h21 e21
    have c21 : h21.c = (h43.sfr 2200 h.sz (some (h.sz + 1))).c := by rw [e21, e20, e48]; rfl
    have F48 : Fr (fun f a => a = h.sz) h1.c h21.c := by
      rw [c21]
      refine Fr.sfr ?_ _ (fun _ => rfl)
      rw [e43']; exact F9
    have Fall : Fr W0 h.c h21.c := F1.trans' F48 (fun f a ha hh => by have h8 : a < h.sz := ha; omega)
    have sz21 : h21.sz = h.sz + 2 := by
      have : h21.c.sz = h43.c.sz := by rw [c21]; rfl
      show h21.c.sz = _
      rw [this, e43']; exact z9
    refine hQ h21 Fall ?_ sz21 ?_ ?_
    · show (h21.c.kd h.sz).1 = 22
      rw [F48.kd h.sz (by show h.sz < h1.sz; omega)]; exact kz1
    · rw [e21]; show h1.rc - 1 = _; omega
    · rw [e21]; show h1.rs - 2 = _; omega
end
