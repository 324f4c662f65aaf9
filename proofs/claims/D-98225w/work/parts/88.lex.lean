/-! WORDS AND NUMBERS ON A TAPE: positions behind blanks; Flt = (kind, place) -/
abbrev Flt : Type := Nat × Nat
def isL (c : Nat) : Bool := decide (97 ≤ c ∧ c ≤ 122)
def isD (c : Nat) : Bool := decide (48 ≤ c ∧ c ≤ 57)
def isB (c : Nat) : Bool := decide (c = 10 ∨ c = 32)
def isAt (p : Nat → Bool) (tp : List Nat) (a : Nat) : Bool := match tp[a]? with
  | some c => p c
  | none => false
def runE (p : Nat → Bool) (tp : List Nat) : Nat → Nat → Nat
  | 0, a => a
  | m+1, a => if isAt p tp a = true then runE p tp m (a+1) else a
/-- where a run of signs ends -/
def endE (p : Nat → Bool) (tp : List Nat) (a : Nat) : Nat := runE p tp (tp.length - a) a
def skp (tp : List Nat) (a : Nat) : Nat := endE isB tp a
def wEn (tp : List Nat) (a : Nat) : Nat := endE isL tp a
def dEn (tp : List Nat) (a : Nat) : Nat := endE isD tp a
/-- a letter or a digit stands right ahead -/
def prLD (tp : List Nat) (a : Nat) : Bool := match a with
  | 0 => false
  | a+1 => isAt isL tp a || isAt isD tp a
def sub_ (tp : List Nat) (a b : Nat) : List Nat := (tp.drop a).take (b - a)
def kw (tp : List Nat) (w : List Nat) (a : Nat) : Bool := isAt isL tp a && (!prLD tp a && decide (sub_ tp a (wEn tp a) = w))
abbrev Pos : Type := Except Flt Nat
abbrev PR (α : Type) : Type := Except Flt (α × Nat)
def askW (tp : List Nat) (w : List Nat) (a : Nat) : Pos := if kw tp w a = true then .ok (skp tp (a + w.length)) else .error (1, a)
def askS (tp : List Nat) (c : Nat) (a : Nat) : Pos := if tp[a]? = some c then .ok (skp tp (a + 1)) else .error (1, a)
def numV (l : List Nat) : Nat := l.foldl (fun v c => 10 * v + c - 48) 0
def numF (tp : List Nat) (lo hi a : Nat) : PR Nat := if isAt isD tp a = false ∨ prLD tp a = true then .error (1, a) else if 4 < dEn tp a - a then .error (1, a + 4) else if lo ≤ numV (sub_ tp a (dEn tp a)) ∧ numV (sub_ tp a (dEn tp a)) ≤ hi then .ok (numV (sub_ tp a (dEn tp a)), skp tp (dEn tp a)) else .error (2, a)
def namV (l : List Nat) : Nat := l.foldl (fun v c => 27 * v + c - 96) 0
/-! the words: p l a c e .. -/
def wPlace : List Nat := [112, 108, 97, 99, 101]
def wStreet : List Nat := [115, 116, 114, 101, 101, 116]
def wFrom : List Nat := [102, 114, 111, 109]
def wTo : List Nat := [116, 111]
def wTakes : List Nat := [116, 97, 107, 101, 115]
def wRound : List Nat := [114, 111, 117, 110, 100]
def wShift : List Nat := [115, 104, 105, 102, 116]
def wWide : List Nat := [119, 105, 100, 101]
def wWalker : List Nat := [119, 97, 108, 107, 101, 114]
def wBroad : List Nat := [98, 114, 111, 97, 100]
def wAt : List Nat := [97, 116]
def wBegin : List Nat := [98, 101, 103, 105, 110]
def wTide : List Nat := [116, 105, 100, 101]
def wClock : List Nat := [99, 108, 111, 99, 107]
def wDay : List Nat := [100, 97, 121]
def wMin : List Nat := [109, 105, 110]
def wMax : List Nat := [109, 97, 120]
def wFirst : List Nat := [102, 105, 114, 115, 116]
def wLast : List Nat := [108, 97, 115, 116]
def wOften : List Nat := [111, 102, 116, 101, 110]
def wTotal : List Nat := [116, 111, 116, 97, 108]
def wMost : List Nat := [109, 111, 115, 116]
def wLeast : List Nat := [108, 101, 97, 115, 116]
def wNot : List Nat := [110, 111, 116]
def wAnd : List Nat := [97, 110, 100]
def wOr : List Nat := [111, 114]
def wAll : List Nat := [97, 108, 108]
def wHour : List Nat := [104, 111, 117, 114]
def wWidth : List Nat := [119, 105, 100, 116, 104]
def wPasses : List Nat := [112, 97, 115, 115, 101, 115]
def ownWs : List (List Nat) := [wPlace, wStreet, wFrom, wTo, wTakes, wRound, wShift, wWide, wWalker, wBroad, wAt, wBegin, wTide, wClock, wDay, wMin, wMax]
def ownH (tp : List Nat) (a : Nat) : Bool := ownWs.any (fun w => kw tp w a)
def namF (tp : List Nat) (a : Nat) : PR Nat := if isAt isL tp a = false ∨ prLD tp a = true ∨ ownH tp a = true then .error (1, a) else if 6 < wEn tp a - a then .error (1, a + 6) else .ok (namV (sub_ tp a (wEn tp a)), skp tp (wEn tp a))
/-! runs -/
theorem isAt_lt {p : Nat → Bool} {tp : List Nat} {a : Nat} (h : isAt p tp a = true) : a < tp.length := by
  unfold isAt at h
  cases hc : tp[a]? with
  | none => rw [hc] at h; cases h
  | some c => exact (List.getElem?_eq_some_iff.mp hc).1
theorem runE_le (p : Nat → Bool) (tp : List Nat) : ∀ (m a : Nat), a ≤ runE p tp m a ∧ (a ≤ tp.length → runE p tp m a ≤ tp.length)
  | 0, a => ⟨Nat.le_refl _, fun h => h⟩
  | m+1, a => by
    unfold runE
    split
    · rename_i h
      have := runE_le p tp m (a+1)
      have h2 := isAt_lt h
      exact ⟨by omega, fun _ => this.2 (by omega)⟩
    · exact ⟨Nat.le_refl _, fun h => h⟩
theorem runE_in (p : Nat → Bool) (tp : List Nat) : ∀ (m a i : Nat), a ≤ i → i < runE p tp m a → isAt p tp i = true
  | 0, a, i, h1, h2 => by have h2 : i < a := h2; omega
  | m+1, a, i, h1, h2 => by
    unfold runE at h2
    split at h2
    · rename_i h
      by_cases e : i = a
      · rw [e]; exact h
      · exact runE_in p tp m (a+1) i (by omega) h2
    · omega
theorem runE_end (p : Nat → Bool) (tp : List Nat) : ∀ (m a : Nat), tp.length - a ≤ m → isAt p tp (runE p tp m a) = false
  | 0, a, h => by
    show isAt p tp a = false
    cases hc : isAt p tp a with
    | false => rfl
    | true => have := isAt_lt hc; omega
  | m+1, a, h => by
    unfold runE
    split
    · exact runE_end p tp m (a+1) (by omega)
    · rename_i h2; simpa using h2
theorem endE_ge (p : Nat → Bool) (tp : List Nat) (a : Nat) : a ≤ endE p tp a := (runE_le p tp _ a).1
theorem endE_le (p : Nat → Bool) {tp : List Nat} {a : Nat} (h : a ≤ tp.length) : endE p tp a ≤ tp.length := (runE_le p tp _ a).2 h
theorem endE_in {p : Nat → Bool} {tp : List Nat} {a i : Nat} (h1 : a ≤ i) (h2 : i < endE p tp a) : isAt p tp i = true := runE_in p tp _ a i h1 h2
theorem endE_end (p : Nat → Bool) (tp : List Nat) (a : Nat) : isAt p tp (endE p tp a) = false := runE_end p tp _ a (Nat.le_refl _)
/-- an end is known by what stands ahead of it and by what stands there -/
theorem endE_eq {p : Nat → Bool} {tp : List Nat} {a e : Nat} (h1 : a ≤ e) (h2 : ∀ i, a ≤ i → i < e → isAt p tp i = true) (h3 : isAt p tp e = false) : endE p tp a = e := by
  rcases Nat.lt_trichotomy (endE p tp a) e with h | h | h
  · have := endE_end p tp a
    rw [h2 _ (endE_ge p tp a) h] at this
    cases this
  · exact h
  · rw [endE_in h1 h] at h3
    cases h3
theorem endE_step {p : Nat → Bool} {tp : List Nat} {a : Nat} (h : isAt p tp a = true) : endE p tp a = endE p tp (a+1) := by
  refine endE_eq (Nat.le_trans (Nat.le_succ a) (endE_ge p tp (a+1))) (fun i h1 h2 => ?_) (endE_end p tp (a+1))
  by_cases e : i = a
  · rw [e]; exact h
  · exact endE_in (by omega) h2
theorem endE_stop {p : Nat → Bool} {tp : List Nat} {a : Nat} (h : isAt p tp a = false) : endE p tp a = a := endE_eq (Nat.le_refl _) (fun i h1 h2 => by omega) h
theorem skp_skp (tp : List Nat) (a : Nat) : skp tp (skp tp a) = skp tp a := endE_stop (endE_end isB tp a)
theorem isB_not {c : Nat} (h : isB c = true) : isL c = false ∧ isD c = false := by
  have h : c = 10 ∨ c = 32 := of_decide_eq_true h
  constructor
  · exact decide_eq_false (by omega)
  · exact decide_eq_false (by omega)
theorem isAt_not {p q : Nat → Bool} {tp : List Nat} {a : Nat} (h : isAt p tp a = true) (hq : ∀ c, p c = true → q c = false) : isAt q tp a = false := by
  unfold isAt at h ⊢
  cases hc : tp[a]? with
  | none => rfl
  | some c => rw [hc] at h; exact hq c h
theorem prLD_s (tp : List Nat) (a : Nat) : prLD tp (a+1) = (isAt isL tp a || isAt isD tp a) := rfl
/-- behind blanks no letter or digit stands right ahead -/
theorem skp_pr {tp : List Nat} {a : Nat} (h : a < skp tp a) : prLD tp (skp tp a) = false := by
  obtain ⟨k, hk⟩ : ∃ k, skp tp a = k + 1 := ⟨skp tp a - 1, by omega⟩
  rw [hk, prLD_s]
  have hb : isAt isB tp k = true := endE_in (p := isB) (a := a) (by omega) (by show k < skp tp a; omega)
  rw [isAt_not hb (fun c hc => (isB_not hc).1), isAt_not hb (fun c hc => (isB_not hc).2)]
  rfl
theorem isAt_some {p : Nat → Bool} {tp : List Nat} {a c : Nat} (h : tp[a]? = some c) : isAt p tp a = p c := by unfold isAt; rw [h]
theorem sub_len {tp : List Nat} {a b : Nat} (h2 : b ≤ tp.length) : (sub_ tp a b).length = b - a := by
  unfold sub_
  rw [List.length_take, List.length_drop]
  omega
theorem sub_get {tp : List Nat} {a b i : Nat} (h : i < b - a) : (sub_ tp a b)[i]? = tp[a + i]? := by
  unfold sub_
  rw [List.getElem?_take_of_lt h, List.getElem?_drop]
theorem sub_succ {tp : List Nat} {a b c : Nat} (h1 : a ≤ b) (h : tp[b]? = some c) : sub_ tp a (b+1) = sub_ tp a b ++ [c] := by
  unfold sub_
  rw [show b + 1 - a = (b - a) + 1 by omega, List.take_succ, List.getElem?_drop, show a + (b - a) = b by omega, h]
  rfl
theorem sub_nil (tp : List Nat) (a : Nat) : sub_ tp a a = [] := by unfold sub_; rw [Nat.sub_self, List.take_zero]
theorem kw_lt {tp w : List Nat} {a : Nat} (h : kw tp w a = true) : a < tp.length := by
  unfold kw at h
  rw [Bool.and_eq_true] at h
  exact isAt_lt h.1
theorem kw_end {tp w : List Nat} {a : Nat} (h : kw tp w a = true) : wEn tp a = a + w.length ∧ isAt isL tp a = true ∧ prLD tp a = false ∧ sub_ tp a (wEn tp a) = w := by
  unfold kw at h
  rw [Bool.and_eq_true, Bool.and_eq_true, decide_eq_true_eq] at h
  obtain ⟨h1, h2, h3⟩ := h
  have hl := isAt_lt h1
  have hg : a ≤ wEn tp a := endE_ge isL tp a
  have hle : wEn tp a ≤ tp.length := endE_le isL (by omega)
  have := sub_len (tp := tp) (a := a) (b := wEn tp a) hle
  rw [h3] at this
  exact ⟨by omega, h1, by simpa using h2, h3⟩
theorem numV_snoc (l : List Nat) (c : Nat) : numV (l ++ [c]) = 10 * numV l + c - 48 := by unfold numV; rw [List.foldl_append]; rfl
theorem namV_snoc (l : List Nat) (c : Nat) : namV (l ++ [c]) = 27 * namV l + c - 96 := by unfold namV; rw [List.foldl_append]; rfl
