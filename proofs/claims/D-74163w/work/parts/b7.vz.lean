/-! plain: vz -/
set_option maxRecDepth 100000
section
theorem pcn_take (P : Int32 → Bool) {l : List Int32} {a : Nat} (ha : a < l.length) : pcn P (l.take (a + 1)) = pcn P (l.take a) + if P (l.getD a 0) then 1 else 0 := by
  have e : l.take (a + 1) = l.take a ++ [l.getD a 0] := by
    rw [List.take_succ_eq_append_getElem ha]
    have : l.getD a 0 = l[a] := by simp [List.getD, ha]
    rw [this]
  rw [e, pcn_app]
theorem pcn_add (P : Int32 → Bool) (l m : List Int32) : pcn P (l ++ m) = pcn P l + pcn P m := by
  unfold pcn
  rw [List.filter_append, List.length_append]
theorem pcn_le (P : Int32 → Bool) (l : List Int32) (a : Nat) : pcn P (l.take a) ≤ pcn P l := by
  have := pcn_add P (l.take a) (l.drop a)
  rw [List.take_append_drop] at this
  omega
/-- all marks are past: all is past. -/
theorem pcn_full {P : Int32 → Bool} {l l' : List Int32} {v : Int32} (e : l = l' ++ [v]) (hv : P v = true) {a : Nat} (h : pcn P (l.take a) = pcn P l) : l.length ≤ a := by
  refine Nat.le_of_not_lt (fun hlt => ?_)
  have hl : l.length = l'.length + 1 := by rw [e]; simp
  have e2 : l.take a = l'.take a := by rw [e, List.take_append_of_le_length (by omega)]
  rw [e2, e, pcn_app, if_pos hv] at h
  have := pcn_le P l' a
  omega
end
