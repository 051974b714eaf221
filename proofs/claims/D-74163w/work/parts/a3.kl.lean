/-! plain: kl -/
set_option maxRecDepth 100000
section
variable {tp : Nat → Nat} {n : Nat} {t : Tk} {A : PG} {p : Nat}

/-- within the text. -/
def nN (n : Nat) (t : Tk) : Prop := t.fr ≤ n ∧ t.to ≤ n
theorem nN.nx (h : nN n t) : nN n (nxt tp n t) := nxt_n h.2
theorem pOc_n {a : Nat} (ht : nN n t) {b : Nat × Tk} (h : pOc tp n A p a t = .ok b) : nN n b.2 := by
  unfold pOc at h
  split at h
  · split at h
    · split at h
      · cases h
      · cases h; exact ht.nx
    · cases h
  · cases h
theorem pNum_n {pa : Nat} (ht : nN n t) {b : Ex × Nat × Tk} (h : pNum tp n A p pa t = .ok b) : nN n b.2.2 := by
  unfold pNum at h
  split at h
  · split at h
    · cases h
    · split at h
      · cases h
      · split at h
        · cases h
        · rename_i q hq
          cases h
          exact (pOc_n ht.nx hq).nx
  · split at h
    · cases h
    · cases h; exact ht.nx
theorem pEat_n {c : Nat} (ht : nN n t) {b : Tk} (h : pEat tp n c t = .ok b) : nN n b := by
  unfold pEat at h
  split at h
  · cases h; exact ht.nx
  · cases h
theorem pOpn_n {d : Nat} (ht : nN n t) {b : Tk} (h : pOpn tp n d t = .ok b) : nN n b := by
  unfold pOpn at h
  split at h
  · split at h
    · cases h
    · cases h; exact ht.nx
  · cases h
theorem pSE_n {rs : Nat → Nat → Tk → ER} {d pa c : Nat} (hr : ∀ b, rs d pa t = .ok b → nN n b.2.2) {b : Ex × Nat × Tk} (h : pSE tp n rs d pa c t = .ok b) : nN n b.2.2 := by
  unfold pSE at h
  split at h
  · cases h
  · rename_i q hq
    split at h
    · cases h
    · rename_i t' ht'
      cases h
      exact pEat_n (hr q hq) ht'
theorem pIf_n {rs : Nat → Nat → Tk → ER} {d pa : Nat} (ht : nN n t) (hr : ∀ pa t b, nN n t → rs (d + 1) pa t = .ok b → nN n b.2.2) {b : Ex × Nat × Tk} (h : pIf tp n rs d pa t = .ok b) : nN n b.2.2 := by
  unfold pIf at h
  split at h
  · cases h
  · rename_i t1 ht1
    have n1 := pOpn_n ht ht1
    split at h
    · cases h
    · rename_i q1 hq1
      have n2 := pSE_n (fun b hb => hr _ _ b n1 hb) hq1
      split at h
      · cases h
      · rename_i q2 hq2
        have n3 := pSE_n (fun b hb => hr _ _ b n2 hb) hq2
        split at h
        · cases h
        · rename_i q3 hq3
          cases h
          have := pSE_n (fun b hb => hr _ _ b n3 hb) hq3
          exact this
theorem pPt_n {rs : Nat → Nat → Tk → ER} {d pa : Nat} (ht : nN n t) (hr : ∀ pa t b, nN n t → rs (d + 1) pa t = .ok b → nN n b.2.2) {b : Ex × Nat × Tk} (h : pPt tp n A p rs d pa t = .ok b) : nN n b.2.2 := by
  unfold pPt at h
  split at h
  · exact pNum_n ht h
  · split at h
    · split at h
      · cases h
      · cases h; exact ht.nx
    · split at h
      · exact pIf_n ht.nx hr h
      · split at h
        · cases h
        · rename_i t1 ht1
          exact pSE_n (fun b hb => hr _ _ b (pOpn_n ht ht1) hb) h
theorem pJn_n {pt : Nat → Tk → ER} (hr : ∀ pa t b, nN n t → pt pa t = .ok b → nN n b.2.2) : ∀ (f : Nat) {e : Ex} {pa : Nat} {t : Tk} {b : Ex × Nat × Tk}, nN n t → pJn tp n pt f e pa t = .ok b → nN n b.2.2
  | 0, _, _, _, _, _, h => by
    unfold pJn at h
    cases h
  | f + 1, e, pa, t, b, ht, h => by
    unfold pJn at h
    split at h
    · cases h; exact ht
    · split at h
      · cases h
      · rename_i q hq
        exact pJn_n hr f (hr _ _ q ht.nx hq) h
theorem pSm_n : ∀ (f d pa : Nat) (t : Tk) (b : Ex × Nat × Tk), nN n t → pSm tp n A p f d pa t = .ok b → nN n b.2.2
  | 0, d, pa, t, b, _, h => by
    unfold pSm at h
    cases h
  | f + 1, d, pa, t, b, ht, h => by
    unfold pSm at h
    split at h
    · cases h
    · rename_i q hq
      have n1 := pPt_n (A := A) (p := p) ht (fun pa t b hb h => pSm_n f (d + 1) pa t b hb h) hq
      exact pJn_n (fun pa t b hb h => pPt_n hb (fun pa t b hb h => pSm_n f (d + 1) pa t b hb h) h) 26 n1 h
/-- how far a reading comes at least. -/
theorem eE_ge {α : Type} {f : α → Tk} {r : Except Fl α} {t : Tk} (h1 : t.fr ≤ n) (h2 : ∀ a, r = .ok a → t.fr ≤ (f a).fr) : t.fr ≤ eE n f r := by
  cases r with
  | error x => rw [eE_er rfl]; omega
  | ok a => rw [eE_ok rfl]; exact h2 a rfl
theorem eE_ge1 {α : Type} {f : α → Tk} {r : Except Fl α} {t : Tk} (h1 : t.fr ≤ n) (h2 : ∀ a, r = .ok a → t.fr + 1 ≤ (f a).fr) : t.fr + 1 ≤ eE n f r := by
  cases r with
  | error x => rw [eE_er rfl]; omega
  | ok a => rw [eE_ok rfl]; exact h2 a rfl
end
