/-! plain: lx1 ps1 -/
set_option maxRecDepth 100000
section
/-- where a row of bytes ends. -/
def isEd (P : Nat → Bool) (p k : Nat) : Prop := p ≤ k ∧ (∀ j, p ≤ j → j < k → P j = true) ∧ P k = false
theorem isEd.uniq {P : Nat → Bool} {p k k' : Nat} (h : isEd P p k) (h' : isEd P p k') : k = k' := by
  rcases Nat.lt_trichotomy k k' with l | e | l
  · have := h'.2.1 k h.1 l
    rw [h.2.2] at this; exact absurd this (by decide)
  · exact e
  · have := h.2.1 k' h'.1 l
    rw [h'.2.2] at this; exact absurd this (by decide)
def ed (P : Nat → Bool) : Nat → Nat → Nat
  | 0, p => p
  | f + 1, p => if P p then ed P f (p + 1) else p
theorem ed_ok {P : Nat → Bool} {n : Nat} (hn : ∀ k, n ≤ k → P k = false) : ∀ f p, n ≤ p + f → isEd P p (ed P f p)
  | 0, p, h => ⟨Nat.le_refl _, fun j a b => by have h9 : j < p := b; omega, hn p (by omega)⟩
  | f + 1, p, h => by
    unfold ed
    cases hp : P p with
    | false => exact ⟨Nat.le_refl _, fun j a b => by have h9 : j < p := b; omega, hp⟩
    | true =>
      have ih := ed_ok hn f (p + 1) (by omega)
      refine ⟨by have := ih.1; show p ≤ ed P f (p + 1); omega, fun j a b => ?_, ih.2.2⟩
      by_cases e : j = p
      · rw [e]; exact hp
      · exact ih.2.1 j (by omega) b

variable {tp : Nat → Nat} {n : Nat}
def spc (tp : Nat → Nat) (n k : Nat) : Bool := decide (k < n) && (decide (tp k = 32) || decide (tp k = 10))
def ltr (tp : Nat → Nat) (n k : Nat) : Bool := decide (k < n) && (decide (97 ≤ tp k) && decide (tp k ≤ 122))
def dgt (tp : Nat → Nat) (n k : Nat) : Bool := decide (k < n) && (decide (48 ≤ tp k) && decide (tp k ≤ 57))
theorem spc_n {k : Nat} (h : n ≤ k) : spc tp n k = false := by unfold spc; rw [decide_eq_false (by omega)]; rfl
theorem ltr_n {k : Nat} (h : n ≤ k) : ltr tp n k = false := by unfold ltr; rw [decide_eq_false (by omega)]; rfl
theorem dgt_n {k : Nat} (h : n ≤ k) : dgt tp n k = false := by unfold dgt; rw [decide_eq_false (by omega)]; rfl
theorem spc_iff {k : Nat} : spc tp n k = true ↔ k < n ∧ (tp k = 32 ∨ tp k = 10) := by simp [spc]
theorem ltr_iff {k : Nat} : ltr tp n k = true ↔ k < n ∧ 97 ≤ tp k ∧ tp k ≤ 122 := by simp [ltr]
theorem dgt_iff {k : Nat} : dgt tp n k = true ↔ k < n ∧ 48 ≤ tp k ∧ tp k ≤ 57 := by simp [dgt]

def eS (tp : Nat → Nat) (n p : Nat) : Nat := ed (spc tp n) n p
def eL (tp : Nat → Nat) (n p : Nat) : Nat := ed (ltr tp n) n p
def eD (tp : Nat → Nat) (n p : Nat) : Nat := ed (dgt tp n) n p
theorem eS_ok (p : Nat) : isEd (spc tp n) p (eS tp n p) := ed_ok (fun _ h => spc_n h) n p (by omega)
theorem eL_ok (p : Nat) : isEd (ltr tp n) p (eL tp n p) := ed_ok (fun _ h => ltr_n h) n p (by omega)
theorem eD_ok (p : Nat) : isEd (dgt tp n) p (eD tp n p) := ed_ok (fun _ h => dgt_n h) n p (by omega)

/-- a known sign. -/
def sgn (c : Nat) : Bool := decide (c = 59) || decide (c = 58) || decide (c = 44) || decide (c = 46) || decide (c = 61) || decide (c = 43) || decide (c = 45) || decide (c = 42) || decide (c = 124) || decide (c = 38) || decide (c = 60) || decide (c = 40) || decide (c = 41)

/-- the first digits of a number. -/
def nmv (tp : Nat → Nat) (p : Nat) : Nat → Nat
  | 0 => 0
  | k + 1 => 10 * nmv tp p k + (tp (p + k) - 48)

/-- a token: from, to, kind (0 end, 1 bad, 2 word, 3 number, 4 sign), number, sign. -/
abbrev Tk : Type := Nat × Nat × Nat × Nat × Nat
def Tk.fr (t : Tk) : Nat := t.1
def Tk.to (t : Tk) : Nat := t.2.1
def Tk.kd (t : Tk) : Nat := t.2.2.1
def Tk.nu (t : Tk) : Nat := t.2.2.2.1
def Tk.sg (t : Tk) : Nat := t.2.2.2.2

def tokA (tp : Nat → Nat) (n fr : Nat) : Tk :=
  if fr < n then
    if ltr tp n fr then (fr, eL tp n fr, if 8 < eL tp n fr - fr then 1 else 2, 0, 0)
    else if dgt tp n fr then (fr, eD tp n fr, if 4 < eD tp n fr - fr then 1 else 3, nmv tp fr (min 4 (eD tp n fr - fr)), 0)
    else (fr, fr + 1, if sgn (tp fr) then 4 else 1, 0, tp fr)
  else (fr, fr, 0, 0, 0)
def tok (tp : Nat → Nat) (n p : Nat) : Tk := tokA tp n (eS tp n p)

/-- the bytes of a word. -/
def wrd (tp : Nat → Nat) (t : Tk) : List Nat := (List.range (t.to - t.fr)).map (fun i => tp (t.fr + i))

theorem tokA_fr (fr : Nat) : (tokA tp n fr).fr = fr := by
  unfold tokA
  split
  · split
    · rfl
    · split <;> rfl
  · rfl
theorem eL_gt {fr : Nat} (h : ltr tp n fr = true) : fr < eL tp n fr ∧ eL tp n fr ≤ n := by
  have a := eL_ok (tp := tp) (n := n) fr
  constructor
  · rcases Nat.lt_or_ge fr (eL tp n fr) with l | l
    · exact l
    · have e : eL tp n fr = fr := Nat.le_antisymm l a.1
      have := a.2.2
      rw [e, h] at this; exact absurd this (by decide)
  · rcases Nat.lt_or_ge n (eL tp n fr) with l | l
    · have h1 := (ltr_iff.1 h).1
      have := a.2.1 n (by omega) l
      rw [ltr_n (Nat.le_refl _)] at this; exact absurd this (by decide)
    · exact l
theorem eD_gt {fr : Nat} (h : dgt tp n fr = true) : fr < eD tp n fr ∧ eD tp n fr ≤ n := by
  have a := eD_ok (tp := tp) (n := n) fr
  constructor
  · rcases Nat.lt_or_ge fr (eD tp n fr) with l | l
    · exact l
    · have e : eD tp n fr = fr := Nat.le_antisymm l a.1
      have := a.2.2
      rw [e, h] at this; exact absurd this (by decide)
  · rcases Nat.lt_or_ge n (eD tp n fr) with l | l
    · have h1 := (dgt_iff.1 h).1
      have := a.2.1 n (by omega) l
      rw [dgt_n (Nat.le_refl _)] at this; exact absurd this (by decide)
    · exact l
theorem tokA_to (fr : Nat) : fr ≤ (tokA tp n fr).to ∧ (fr < n → fr < (tokA tp n fr).to ∧ (tokA tp n fr).to ≤ n) := by
  unfold tokA
  by_cases h : fr < n
  · rw [if_pos h]
    by_cases hl : ltr tp n fr = true
    · rw [if_pos hl]
      have := eL_gt hl
      exact ⟨by show fr ≤ eL tp n fr; omega, fun _ => this⟩
    · rw [if_neg hl]
      by_cases hd : dgt tp n fr = true
      · rw [if_pos hd]
        have := eD_gt hd
        exact ⟨by show fr ≤ eD tp n fr; omega, fun _ => this⟩
      · rw [if_neg hd]
        exact ⟨Nat.le_succ _, fun _ => ⟨Nat.lt_succ_self _, h⟩⟩
  · rw [if_neg h]
    exact ⟨Nat.le_refl _, fun hh => absurd hh h⟩
theorem eS_le {p : Nat} (h : p ≤ n) : eS tp n p ≤ n := by
  have a := eS_ok (tp := tp) (n := n) p
  rcases Nat.lt_or_ge n (eS tp n p) with l | l
  · have := a.2.1 n h l
    rw [spc_n (Nat.le_refl _)] at this; exact absurd this (by decide)
  · exact l
/-- kinds. -/
theorem tokA_kd0 (fr : Nat) : (tokA tp n fr).kd = 0 ↔ n ≤ fr := by
  unfold tokA
  by_cases h : fr < n
  · rw [if_pos h]
    refine ⟨fun hh => ?_, fun hh => by omega⟩
    exfalso
    revert hh
    by_cases hl : ltr tp n fr = true
    · rw [if_pos hl]
      show (if 8 < eL tp n fr - fr then 1 else 2) = 0 → False
      split <;> omega
    · rw [if_neg hl]
      by_cases hd : dgt tp n fr = true
      · rw [if_pos hd]
        show (if 4 < eD tp n fr - fr then 1 else 3) = 0 → False
        split <;> omega
      · rw [if_neg hd]
        show (if sgn (tp fr) = true then 4 else 1) = 0 → False
        split <;> omega
  · rw [if_neg h]
    exact ⟨fun _ => by omega, fun _ => rfl⟩
end
section
/-- words that are no names. -/
def kw (k : Nat) : List Nat := if k = 0 then [115, 121, 109, 98, 111, 108] else if k = 1 then [112, 114, 111, 100] else if k = 2 then [114, 117, 108, 101] else if k = 3 then [105, 110] else if k = 4 then [111, 117, 116] else if k = 5 then [110, 117, 109] else if k = 6 then [109, 97, 120] else if k = 7 then [109, 105, 110] else [105, 102]
def isW (tp : Nat → Nat) (t : Tk) (k : Nat) : Bool := decide (t.kd = 2) && decide (wrd tp t = kw k)
def isNm (tp : Nat → Nat) (t : Tk) : Bool := decide (t.kd = 2) && (List.range 9).all (fun k => decide (wrd tp t ≠ kw k))
def isSg (t : Tk) (c : Nat) : Bool := decide (t.kd = 4) && decide (t.sg = c)
theorem isW_iff {tp : Nat → Nat} {t : Tk} {k : Nat} : isW tp t k = true ↔ t.kd = 2 ∧ wrd tp t = kw k := by simp [isW]
theorem isNm_iff {tp : Nat → Nat} {t : Tk} : isNm tp t = true ↔ t.kd = 2 ∧ ∀ k, k < 9 → wrd tp t ≠ kw k := by simp [isNm]
theorem isSg_iff {t : Tk} {c : Nat} : isSg t c = true ↔ t.kd = 4 ∧ t.sg = c := by simp [isSg]
def nxt (tp : Nat → Nat) (n : Nat) (t : Tk) : Tk := tok tp n t.to
abbrev Fl : Type := Nat × Nat
def bad (t : Tk) (k : Nat) : Fl := (if t.kd = 1 then 1 else k, t.fr)

/-- a grammar as it is read: with names of symbols, of productions, of attributes. -/
def PG : Type := Gv × (Nat → List Nat) × (Nat → List Nat) × (Nat → Nat → List Nat)
def PG.g (A : PG) : Gv := A.1
def PG.sn (A : PG) : Nat → List Nat := A.2.1
def PG.pn (A : PG) : Nat → List Nat := A.2.2.1
def PG.an (A : PG) : Nat → Nat → List Nat := A.2.2.2
def PG.nil : PG := (Gv.mk 0 0 (fun _ => 0) (fun _ => 0) (fun _ => 0) (fun _ _ => 0) (fun _ _ => none), fun _ => [], fun _ => [], fun _ _ => [])
def PG.addS (A : PG) (w : List Nat) (i c : Nat) (an : Nat → List Nat) : PG :=
  (Gv.mk (A.g.nS + 1) A.g.nP (updN A.g.ins A.g.nS i) (updN A.g.cnt A.g.nS c) A.g.kn A.g.sy A.g.rl, updN A.sn A.g.nS w, A.pn, updN A.an A.g.nS an)
def PG.addP (A : PG) (w : List Nat) (c : Nat) (ks : Nat → Nat) : PG :=
  (Gv.mk A.g.nS (A.g.nP + 1) A.g.ins A.g.cnt (updN A.g.kn A.g.nP c) (updN A.g.sy A.g.nP ks) (updN A.g.rl A.g.nP (fun _ => none)), A.sn, updN A.pn A.g.nP w, A.an)
def PG.addR (A : PG) (p o : Nat) (e : Ex) : PG :=
  (Gv.mk A.g.nS A.g.nP A.g.ins A.g.cnt A.g.kn A.g.sy (updN A.g.rl p (updN (A.g.rl p) o (some e))), A.sn, A.pn, A.an)

def fdN (f : Nat → List Nat) (m : Nat) (w : List Nat) : Option Nat := fstN (fun k => decide (f k = w)) m

/-- names of attributes. -/
def pAt (tp : Nat → Nat) (n : Nat) : Nat → Tk → (Nat → List Nat) → Nat → Nat → Except Fl ((Nat → List Nat) × Nat × Tk)
  | 0, t, _, _, _ => .error (bad t 2)
  | f + 1, t, an, c, had =>
    if isNm tp t then
      if (fdN an c (wrd tp t)).isSome then .error (bad t 4)
      else if c - had = 4 then .error (bad t 6)
      else if isNm tp (nxt tp n t) then pAt tp n f (nxt tp n t) (updN an c (wrd tp t)) (c + 1) had
      else .ok (updN an c (wrd tp t), c + 1, nxt tp n t)
    else .error (bad t 2)
/-- behind the word in, or out, if it is there. -/
def pSd (tp : Nat → Nat) (n k : Nat) (t : Tk) (an : Nat → List Nat) (c : Nat) : Except Fl ((Nat → List Nat) × Nat × Tk) :=
  if isW tp t k then pAt tp n 6 (nxt tp n t) an c c else .ok (an, c, t)
def pSy (tp : Nat → Nat) (n : Nat) (A : PG) (t : Tk) : Except Fl (PG × Tk) :=
  if A.g.nS = 8 then .error (bad t 6)
  else if isNm tp (nxt tp n t) then
    if (fdN A.sn A.g.nS (wrd tp (nxt tp n t))).isSome then .error (bad (nxt tp n t) 4)
    else match pSd tp n 3 (nxt tp n (nxt tp n t)) (fun _ => []) 0 with
      | .error e => .error e
      | .ok q => match pSd tp n 4 q.2.2 q.1 q.2.1 with
        | .error e => .error e
        | .ok r => .ok (A.addS (wrd tp (nxt tp n t)) q.2.1 r.2.1 r.1, r.2.2)
  else .error (bad (nxt tp n t) 2)

/-- children. -/
def pKd (tp : Nat → Nat) (n : Nat) (A : PG) : Nat → Tk → (Nat → Nat) → Nat → Except Fl ((Nat → Nat) × Nat × Tk)
  | 0, t, _, _ => .error (bad t 2)
  | f + 1, t, ks, c =>
    if isNm tp t then
      match fdN A.sn A.g.nS (wrd tp t) with
      | none => .error (bad t 3)
      | some s => if c = 3 then .error (bad t 6) else pKd tp n A f (nxt tp n t) (updN ks (c + 1) s) (c + 1)
    else .ok (ks, c, t)
def pPr3 (tp : Nat → Nat) (n : Nat) (A : PG) (w : List Nat) (t : Tk) : Except Fl (PG × Tk) :=
  if isNm tp t then
    match fdN A.sn A.g.nS (wrd tp t) with
    | none => .error (bad t 3)
    | some s => match pKd tp n A 5 (nxt tp n t) (fun _ => s) 0 with
      | .error e => .error e
      | .ok q => .ok (A.addP w q.2.1 q.1, q.2.2)
  else .error (bad t 2)
def pPr (tp : Nat → Nat) (n : Nat) (A : PG) (t : Tk) : Except Fl (PG × Tk) :=
  if A.g.nP = 12 then .error (bad t 6)
  else if isNm tp (nxt tp n t) then
    if (fdN A.pn A.g.nP (wrd tp (nxt tp n t))).isSome then .error (bad (nxt tp n t) 4)
    else if isSg (nxt tp n (nxt tp n t)) 58 then pPr3 tp n A (wrd tp (nxt tp n t)) (nxt tp n (nxt tp n (nxt tp n t)))
    else .error (bad (nxt tp n (nxt tp n t)) 2)
  else .error (bad (nxt tp n t) 2)

/-- an occ behind its position. -/
def pOc (tp : Nat → Nat) (n : Nat) (A : PG) (p at_ : Nat) (t : Tk) : Except Fl (Nat × Tk) :=
  if isSg t 46 then
    if isNm tp (nxt tp n t) then
      match fdN (A.an (A.g.sy p at_)) (A.g.cnt (A.g.sy p at_)) (wrd tp (nxt tp n t)) with
      | none => .error (bad (nxt tp n t) 3)
      | some a => .ok (8 * at_ + a, nxt tp n t)
    else .error (bad (nxt tp n t) 2)
  else .error (bad t 2)

/-- a rule is read: codes, how many parts, the token behind. -/
abbrev ER : Type := Except Fl (Ex × Nat × Tk)
def pNum (tp : Nat → Nat) (n : Nat) (A : PG) (p pa : Nat) (t : Tk) : ER :=
  if isSg (nxt tp n t) 46 then
    if A.g.kn p < t.nu then .error (3, t.fr)
    else if pa = 24 then .error (6, t.fr)
    else match pOc tp n A p t.nu (nxt tp n t) with
      | .error e => .error e
      | .ok q => .ok ([(2, q.1)], pa + 1, nxt tp n q.2)
  else if pa = 24 then .error (6, t.fr)
  else .ok ([(0, t.nu)], pa + 1, nxt tp n t)
/-- a sign must be there. -/
def pEat (tp : Nat → Nat) (n c : Nat) (t : Tk) : Except Fl Tk := if isSg t c then .ok (nxt tp n t) else .error (bad t 2)
def pOpn (tp : Nat → Nat) (n d : Nat) (t : Tk) : Except Fl Tk := if isSg t 40 then (if d = 6 then .error (bad t 6) else .ok (nxt tp n t)) else .error (bad t 2)
/-- a sum, then a sign. -/
def pSE (tp : Nat → Nat) (n : Nat) (rs : Nat → Nat → Tk → ER) (d pa c : Nat) (t : Tk) : ER :=
  match rs d pa t with
  | .error e => .error e
  | .ok q => match pEat tp n c q.2.2 with
    | .error e => .error e
    | .ok t' => .ok (q.1, q.2.1, t')
def pIf (tp : Nat → Nat) (n : Nat) (rs : Nat → Nat → Tk → ER) (d pa : Nat) (t : Tk) : ER :=
  match pOpn tp n d t with
  | .error e => .error e
  | .ok t1 => match pSE tp n rs (d + 1) pa 44 t1 with
    | .error e => .error e
    | .ok q1 => match pSE tp n rs (d + 1) q1.2.1 44 q1.2.2 with
      | .error e => .error e
      | .ok q2 => match pSE tp n rs (d + 1) q2.2.1 41 q2.2.2 with
        | .error e => .error e
        | .ok q3 => .ok (q1.1 ++ q2.1 ++ q3.1 ++ [(3, 0)], q3.2.1, q3.2.2)
def pPt (tp : Nat → Nat) (n : Nat) (A : PG) (p : Nat) (rs : Nat → Nat → Tk → ER) (d pa : Nat) (t : Tk) : ER :=
  if t.kd = 3 then pNum tp n A p pa t
  else if isW tp t 5 then (if pa = 24 then .error (bad t 6) else .ok ([(1, 0)], pa + 1, nxt tp n t))
  else if isW tp t 8 then pIf tp n rs d pa (nxt tp n t)
  else match pOpn tp n d t with
    | .error e => .error e
    | .ok t1 => pSE tp n rs (d + 1) pa 41 t1
/-- what joins. -/
def jnt (tp : Nat → Nat) (t : Tk) : Option Nat :=
  if isW tp t 6 then some 4 else if isW tp t 7 then some 5
  else if isSg t 43 || isSg t 45 || isSg t 42 || isSg t 124 || isSg t 38 || isSg t 60 then some t.sg else none
def pJn (tp : Nat → Nat) (n : Nat) (pt : Nat → Tk → ER) : Nat → Ex → Nat → Tk → ER
  | 0, _, _, t => .error (bad t 2)
  | f + 1, e, pa, t => match jnt tp t with
    | none => .ok (e, pa, t)
    | some c => match pt pa (nxt tp n t) with
      | .error x => .error x
      | .ok q => pJn tp n pt f (e ++ q.1 ++ [(c, 0)]) q.2.1 q.2.2
def pSm (tp : Nat → Nat) (n : Nat) (A : PG) (p : Nat) : Nat → Nat → Nat → Tk → ER
  | 0, _, _, t => .error (bad t 2)
  | f + 1, d, pa, t => match pPt tp n A p (pSm tp n A p f) d pa t with
    | .error x => .error x
    | .ok q => pJn tp n (fun pa t => pPt tp n A p (pSm tp n A p f) d pa t) 26 q.1 q.2.1 q.2.2

def pRl2 (tp : Nat → Nat) (n : Nat) (A : PG) (p : Nat) (t : Tk) : Except Fl (PG × Tk) :=
  if t.kd = 3 then
    if t.nu ≤ A.g.kn p then
      match pOc tp n A p t.nu (nxt tp n t) with
      | .error e => .error e
      | .ok q =>
        if A.g.tl p q.1 ∧ A.g.rl p q.1 = none then
          match pEat tp n 61 (nxt tp n q.2) with
          | .error e => .error e
          | .ok t1 => match pSm tp n A p 9 0 0 t1 with
            | .error e => .error e
            | .ok r => .ok (A.addR p q.1 r.1, r.2.2)
        else .error (bad q.2 5)
    else .error (bad t 3)
  else .error (bad t 2)
def pRl (tp : Nat → Nat) (n : Nat) (A : PG) (t : Tk) : Except Fl (PG × Tk) :=
  if isNm tp (nxt tp n t) then
    match fdN A.pn A.g.nP (wrd tp (nxt tp n t)) with
    | none => .error (bad (nxt tp n t) 3)
    | some p => pRl2 tp n A p (nxt tp n (nxt tp n t))
  else .error (bad (nxt tp n t) 2)
def pLn0 (tp : Nat → Nat) (n : Nat) (A : PG) (t : Tk) : Except Fl (PG × Tk) :=
  if isW tp t 0 then pSy tp n A t else if isW tp t 1 then pPr tp n A t else if isW tp t 2 then pRl tp n A t else .error (bad t 2)
def pLn (tp : Nat → Nat) (n : Nat) (A : PG) (t : Tk) : Except Fl (PG × Tk) :=
  match pLn0 tp n A t with
  | .error e => .error e
  | .ok q => match pEat tp n 59 q.2 with
    | .error e => .error e
    | .ok t' => .ok (q.1, t')
def pGr (tp : Nat → Nat) (n : Nat) : Nat → PG → Tk → Except Fl PG
  | 0, _, t => .error (bad t 2)
  | f + 1, A, t => match pLn tp n A t with
    | .error e => .error e
    | .ok q => if q.2.kd = 0 then .ok q.1 else pGr tp n f q.1 q.2
/-- a text as a grammar. -/
def pAll (tp : Nat → Nat) (n : Nat) : Except Fl PG := pGr tp n (n + 2) PG.nil (tok tp n 0)
end
