/-! SUMS: the codes that a sum tells, part by part (prs); the same by what waits (ystep) -/
def findW (tp : List Nat) : List (List Nat × Nat) → Nat → Option (Nat × Nat)
  | [], _ => none
  | x :: r, a => if kw tp x.1 a = true then some (x.2, x.1.length) else findW tp r a
def partL (q : Bool) : List (List Nat × Nat) := if q = true then [(wHour, 40), (wClock, 41), (wDay, 42)] else [(wTide, 7), (wRound, 8), (wClock, 9), (wDay, 10)]
def ofL (q : Bool) : List (List Nat × Nat) := if q = true then [(wWidth, 60), (wTide, 61), (wPasses, 62)] else []
def mmL : List (List Nat × Nat) := [(wMin, 1), (wMax, 2)]
abbrev PRs : Type := Option (PR (List Nat))
def okThen (r : PRs) (k : List Nat → Nat → PRs) : PRs := match r with
  | some (.ok x) => k x.1 x.2
  | some (.error f) => some (.error f)
  | none => none
def posThen (r : Pos) (k : Nat → PRs) : PRs := match r with
  | .ok a => k a
  | .error f => some (.error f)
/-- modes: 0 a sum, 1 a product, 2 a part, 3 the rest of a sum, 4 the rest of a product -/
def prs (q : Bool) (tp : List Nat) : Nat → Nat → Nat → List Nat → Nat → PRs
  | 0, _, _, _, _ => none
  | f+1, 0, o, _, a => okThen (prs q tp f 1 o [] a) (fun cs a1 => prs q tp f 3 o cs a1)
  | f+1, 1, o, _, a => okThen (prs q tp f 2 o [] a) (fun cs a1 => prs q tp f 4 o cs a1)
  | f+1, 2, o, _, a =>
    if tp[a]? = some 40 then (if o = 6 then some (.error (4, a)) else okThen (prs q tp f 0 (o+1) [] (skp tp (a+1))) (fun cs a1 => posThen (askS tp 41 a1) (fun a2 => some (.ok (cs, a2)))))
    else match findW tp mmL a with
      | some x => (if tp[skp tp (a + x.2)]? = some 40 then (if o = 6 then some (.error (4, skp tp (a + x.2))) else okThen (prs q tp f 0 (o+1) [] (skp tp (skp tp (a + x.2) + 1))) (fun cs a1 => posThen (askS tp 44 a1) (fun a2 => okThen (prs q tp f 0 (o+1) [] a2) (fun ds a3 => posThen (askS tp 41 a3) (fun a4 => some (.ok (cs ++ ds ++ [4 + x.1], a4))))))) else some (.error (1, skp tp (a + x.2))))
      | none => (match findW tp (ofL q) a with
        | some x => if o = 6 then some (.error (4, a)) else okThen (prs q tp f 2 (o+1) [] (skp tp (a + x.2))) (fun cs a1 => some (.ok (cs ++ [x.1], a1)))
        | none => (match findW tp (partL q) a with
          | some x => some (.ok ([x.1], skp tp (a + x.2)))
          | none => (match numF tp 0 9999 a with
            | .ok x => some (.ok ([1000 + x.1], x.2))
            | .error f => some (.error f))))
  | f+1, 3, o, acc, a =>
    if tp[a]? = some 43 then okThen (prs q tp f 1 o [] (skp tp (a+1))) (fun cs a1 => prs q tp f 3 o (acc ++ cs ++ [1]) a1)
    else if tp[a]? = some 45 then okThen (prs q tp f 1 o [] (skp tp (a+1))) (fun cs a1 => prs q tp f 3 o (acc ++ cs ++ [2]) a1)
    else some (.ok (acc, a))
  | f+1, _+4, o, acc, a =>
    if tp[a]? = some 42 then okThen (prs q tp f 2 o [] (skp tp (a+1))) (fun cs a1 => prs q tp f 4 o (acc ++ cs ++ [3]) a1)
    else if tp[a]? = some 47 then okThen (prs q tp f 2 o [] (skp tp (a+1))) (fun cs a1 => prs q tp f 4 o (acc ++ cs ++ [4]) a1)
    else some (.ok (acc, a))
/-! what waits: phase (0 a part is asked, 1 behind a part, 2 done, 3 a fault), waiting, codes, open, place -/
abbrev YS : Type := Nat × List Nat × List Nat × Nat × Nat
def isMk (v : Nat) : Bool := decide (20 ≤ v ∧ v ≤ 24)
def lastM : List Nat → Option Nat
  | [] => none
  | v :: W => if isMk v = true then some v else lastM W
/-- down to what is open last -/
def dropM : List Nat → List Nat → List Nat × List Nat
  | [], C => ([], C)
  | v :: W, C => if isMk v = true then (v :: W, C) else dropM W (C ++ [v])
def dropO : List Nat → List Nat → Nat → List Nat × List Nat × Nat
  | [], C, o => ([], C, o)
  | v :: W, C, o => if 60 ≤ v then dropO W (C ++ [v]) (o - 1) else (v :: W, C, o)
def dropP (p : Nat → Bool) : List Nat → List Nat → List Nat × List Nat
  | [], C => ([], C)
  | v :: W, C => if p v = true then dropP p W (C ++ [v]) else (v :: W, C)
def isMul (v : Nat) : Bool := decide (v = 3 ∨ v = 4)
def isOp (v : Nat) : Bool := decide (v = 1 ∨ v = 2 ∨ v = 3 ∨ v = 4)
def yflt (f : Flt) : YS := (3, [], [], f.1, f.2)
def ymk (x : List Nat × List Nat × Nat) (a : Nat) : YS := (1, x.1, x.2.1, x.2.2, a)
def ypush (x : List Nat × List Nat) (v o a : Nat) : YS := (0, v :: x.1, x.2, o, a)
def yP (q : Bool) (tp W C : List Nat) (o a : Nat) : YS :=
  if tp[a]? = some 40 then (if o = 6 then yflt (4, a) else (0, 20 :: W, C, o + 1, skp tp (a+1)))
  else match findW tp mmL a with
    | some x => if tp[skp tp (a + x.2)]? = some 40 then (if o = 6 then yflt (4, skp tp (a + x.2)) else (0, (20 + x.1) :: W, C, o + 1, skp tp (skp tp (a + x.2) + 1))) else yflt (1, skp tp (a + x.2))
    | none => (match findW tp (ofL q) a with
      | some x => if o = 6 then yflt (4, a) else (0, x.1 :: W, C, o + 1, skp tp (a + x.2))
      | none => (match findW tp (partL q) a with
        | some x => ymk (dropO W (C ++ [x.1]) o) (skp tp (a + x.2))
        | none => (match numF tp 0 9999 a with
          | .ok x => ymk (dropO W (C ++ [1000 + x.1]) o) x.2
          | .error f => yflt f)))
def isCl (m : Option Nat) : Bool := decide (m = some 20 ∨ m = some 23 ∨ m = some 24)
/-- a bracket is closed -/
def yclose (x : List Nat × List Nat) (o a : Nat) : YS := match x.1 with
  | [] => (1, [], x.2, o, a)
  | v :: W => ymk (dropO W (if v = 20 then x.2 else x.2 ++ [if v = 23 then 5 else 6]) (o - 1)) a
def ynext (x : List Nat × List Nat) (o a : Nat) : YS := match x.1 with
  | [] => (0, [], x.2, o, a)
  | v :: W => (0, (v + 2) :: W, x.2, o, a)
def yG (tp W C : List Nat) (o a : Nat) : YS :=
  if tp[a]? = some 41 ∧ isCl (lastM W) = true then yclose (dropM W C) o (skp tp (a+1))
  else if tp[a]? = some 42 then ypush (dropP isMul W C) 3 o (skp tp (a+1))
  else if tp[a]? = some 47 then ypush (dropP isMul W C) 4 o (skp tp (a+1))
  else if tp[a]? = some 43 then ypush (dropP isOp W C) 1 o (skp tp (a+1))
  else if tp[a]? = some 45 then ypush (dropP isOp W C) 2 o (skp tp (a+1))
  else match lastM W with
    | none => (2, [], C ++ W, o, a)
    | some m => if m = 21 ∨ m = 22 then (if tp[a]? = some 44 then ynext (dropM W C) o (skp tp (a+1)) else yflt (1, a)) else yflt (1, a)
def ystep (q : Bool) (tp : List Nat) (s : YS) : YS := match s.1 with
  | 0 => yP q tp s.2.1 s.2.2.1 s.2.2.2.1 s.2.2.2.2
  | 1 => yG tp s.2.1 s.2.2.1 s.2.2.2.1 s.2.2.2.2
  | _+2 => s
def yit (q : Bool) (tp : List Nat) : Nat → YS → YS
  | 0, s => s
  | k+1, s => yit q tp k (ystep q tp s)
def Rch (q : Bool) (tp : List Nat) (s t : YS) : Prop := ∃ k, yit q tp k s = t
theorem Rch.rf {q : Bool} {tp : List Nat} {s : YS} : Rch q tp s s := ⟨0, rfl⟩
theorem yit_add (q : Bool) (tp : List Nat) : ∀ (j k : Nat) (s : YS), yit q tp (j + k) s = yit q tp k (yit q tp j s)
  | 0, k, s => by rw [Nat.zero_add]; rfl
  | j+1, k, s => by
    rw [show j + 1 + k = (j + k) + 1 by omega]
    exact yit_add q tp j k (ystep q tp s)
theorem Rch.tr {q : Bool} {tp : List Nat} {s t u : YS} (h1 : Rch q tp s t) (h2 : Rch q tp t u) : Rch q tp s u := by
  obtain ⟨j, rfl⟩ := h1
  obtain ⟨k, rfl⟩ := h2
  exact ⟨j + k, yit_add q tp j k s⟩
theorem Rch.one {q : Bool} {tp : List Nat} {s t u : YS} (h1 : ystep q tp s = t) (h2 : Rch q tp t u) : Rch q tp s u := by
  obtain ⟨k, rfl⟩ := h2
  exact ⟨k + 1, by show yit q tp k (ystep q tp s) = _; rw [h1]⟩
theorem yit_fix {q : Bool} {tp : List Nat} {s : YS} (h : 2 ≤ s.1) : ∀ k, yit q tp k s = s
  | 0 => rfl
  | k+1 => by
    have e : ystep q tp s = s := by
      obtain ⟨m, hm⟩ : ∃ m, s.1 = m + 2 := ⟨s.1 - 2, by omega⟩
      unfold ystep
      rw [hm]
    show yit q tp k (ystep q tp s) = s
    rw [e]
    exact yit_fix h k
/-- what ends, ends one way -/
theorem Rch.uniq {q : Bool} {tp : List Nat} {s t u : YS} (h1 : Rch q tp s t) (h2 : Rch q tp s u) (ht : 2 ≤ t.1) (hu : 2 ≤ u.1) : t = u := by
  obtain ⟨j, rfl⟩ := h1
  obtain ⟨k, rfl⟩ := h2
  rcases Nat.le_total j k with h | h
  · obtain ⟨i, rfl⟩ : ∃ i, k = j + i := ⟨k - j, by omega⟩
    rw [yit_add, yit_fix ht]
  · obtain ⟨i, rfl⟩ : ∃ i, j = k + i := ⟨j - k, by omega⟩
    rw [yit_add, yit_fix hu]
/-! the stack's ways -/
theorem lastM_ops : ∀ (ops W : List Nat), (∀ x ∈ ops, isOp x = true) → lastM (ops ++ W) = lastM W
  | [], W, _ => rfl
  | v :: ops, W, h => by
    have hv := of_decide_eq_true (h v List.mem_cons_self)
    show (if isMk v = true then some v else lastM (ops ++ W)) = _
    rw [if_neg (by unfold isMk; rw [decide_eq_false (by omega)]; decide)]
    exact lastM_ops ops W (fun x hx => h x (List.mem_cons_of_mem _ hx))
theorem dropM_ops : ∀ (ops W C : List Nat), (∀ x ∈ ops, isOp x = true) → dropM (ops ++ W) C = dropM W (C ++ ops)
  | [], W, C, _ => by simp
  | v :: ops, W, C, h => by
    have hv := of_decide_eq_true (h v List.mem_cons_self)
    show (if isMk v = true then (v :: (ops ++ W), C) else dropM (ops ++ W) (C ++ [v])) = _
    rw [if_neg (by unfold isMk; rw [decide_eq_false (by omega)]; decide), dropM_ops ops W _ (fun x hx => h x (List.mem_cons_of_mem _ hx))]
    simp
theorem dropP_ops {p : Nat → Bool} : ∀ (ops W C : List Nat), (∀ x ∈ ops, p x = true) → dropP p (ops ++ W) C = dropP p W (C ++ ops)
  | [], W, C, _ => by simp
  | v :: ops, W, C, h => by
    show (if p v = true then dropP p (ops ++ W) (C ++ [v]) else (v :: (ops ++ W), C)) = _
    rw [if_pos (h v List.mem_cons_self), dropP_ops ops W _ (fun x hx => h x (List.mem_cons_of_mem _ hx))]
    simp
/-- the top isn't one of these -/
def topN (p : Nat → Bool) (W : List Nat) : Prop := ∀ v, W.head? = some v → p v = false
theorem dropP_top {p : Nat → Bool} {W : List Nat} (h : topN p W) (C : List Nat) : dropP p W C = (W, C) := by
  cases W with
  | nil => rfl
  | cons v W => show (if p v = true then _ else _) = _; rw [if_neg (by rw [h v rfl]; decide)]
theorem dropO_top {W : List Nat} (h : topN (fun v => decide (60 ≤ v)) W) (C : List Nat) (o : Nat) : dropO W C o = (W, C, o) := by
  cases W with
  | nil => rfl
  | cons v W =>
    have := of_decide_eq_false (h v rfl)
    show (if 60 ≤ v then _ else _) = _
    rw [if_neg this]
theorem findW_mm {tp : List Nat} {a : Nat} {x : Nat × Nat} (h : findW tp mmL a = some x) : x.1 = 1 ∨ x.1 = 2 := by
  unfold mmL findW at h
  split at h
  · cases h; exact Or.inl rfl
  · unfold findW at h
    split at h
    · cases h; exact Or.inr rfl
    · cases h
theorem findW_of {q : Bool} {tp : List Nat} {a : Nat} {x : Nat × Nat} (h : findW tp (ofL q) a = some x) : 60 ≤ x.1 ∧ x.1 ≤ 62 := by
  cases q with
  | false => cases h
  | true =>
    unfold ofL at h
    rw [if_pos rfl] at h
    unfold findW at h
    split at h
    · cases h; exact ⟨by decide, by decide⟩
    · unfold findW at h
      split at h
      · cases h; exact ⟨by decide, by decide⟩
      · unfold findW at h
        split at h
        · cases h; exact ⟨by decide, by decide⟩
        · cases h
