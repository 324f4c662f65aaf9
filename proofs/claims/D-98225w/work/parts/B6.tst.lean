/-! TESTS, plain: recursive descent over codes (10 and, 11 or, 12 not, 13 all, 7 less, 8 more, 9 alike), and the yard of the reference -/
def sgnC (tp : List Nat) (a : Nat) : Option Nat := if tp[a]? = some 60 then some 7 else if tp[a]? = some 62 then some 8 else if tp[a]? = some 61 then some 9 else none
/-- all, or two sums with a sign -/
def factP (tp : List Nat) (o a : Nat) : PR (List Nat) :=
  if kw tp wAll a = true then .ok ([13], skp tp (a+3)) else match sumP true tp o a with
  | .error f => .error f
  | .ok x => (match sgnC tp x.2 with
    | none => .error (1, x.2)
    | some c => (match sumP true tp o (skp tp (x.2+1)) with
      | .error f => .error f
      | .ok y => .ok (x.1 ++ y.1 ++ [c], y.2)))
def tst (tp : List Nat) : Nat → Nat → Nat → List Nat → Nat → PRs
  | 0, _, _, _, _ => none
  | f+1, 0, o, _, a => okThen (tst tp f 1 o [] a) (fun cs b => tst tp f 3 o cs b)
  | f+1, 1, o, _, a => okThen (tst tp f 2 o [] a) (fun cs b => tst tp f 4 o cs b)
  | f+1, 2, o, _, a => if tp[a]? = some 91 then (if o = 6 then some (.error (4, a)) else okThen (tst tp f 0 (o+1) [] (skp tp (a+1))) (fun cs b => posThen (askS tp 93 b) (fun c => some (.ok (cs, c)))))
      else if kw tp wNot a = true then (if o = 6 then some (.error (4, a)) else okThen (tst tp f 2 (o+1) [] (skp tp (a+3))) (fun cs b => some (.ok (cs ++ [12], b))))
      else some (factP tp o a)
  | f+1, 3, o, acc, a => if kw tp wOr a = true then okThen (tst tp f 1 o [] (skp tp (a+2))) (fun cs b => tst tp f 3 o (acc ++ cs ++ [11]) b) else some (.ok (acc, a))
  | f+1, _+4, o, acc, a => if kw tp wAnd a = true then okThen (tst tp f 2 o [] (skp tp (a+3))) (fun cs b => tst tp f 4 o (acc ++ cs ++ [10]) b) else some (.ok (acc, a))
def drN : List Nat → List Nat → Nat → List Nat × List Nat × Nat
  | [], C, o => ([], C, o)
  | v :: W, C, o => if v = 12 then drN W (C ++ [v]) (o - 1) else (v :: W, C, o)
def drS : List Nat → List Nat → List Nat × List Nat
  | [], C => ([], C)
  | v :: W, C => if v = 25 then (W, C) else drS W (C ++ [v])
def isAnd (v : Nat) : Bool := decide (v = 10)
def isAO (v : Nat) : Bool := decide (v = 10 ∨ v = 11)
def isNt (v : Nat) : Bool := decide (v = 12)
def tP (tp W C : List Nat) (o a : Nat) : YS :=
  if tp[a]? = some 91 then (if o = 6 then yflt (4, a) else (0, 25 :: W, C, o + 1, skp tp (a+1)))
  else if kw tp wNot a = true then (if o = 6 then yflt (4, a) else (0, 12 :: W, C, o + 1, skp tp (a+3)))
  else match factP tp o a with
    | .ok x => ymk (drN W (C ++ x.1) o) x.2
    | .error f => yflt f
def tG (tp W C : List Nat) (o a : Nat) : YS :=
  if tp[a]? = some 93 ∧ 25 ∈ W then ymk (drN (drS W C).1 (drS W C).2 (o - 1)) (skp tp (a+1))
  else if kw tp wAnd a = true then ypush (dropP isAnd W C) 10 o (skp tp (a+3))
  else if kw tp wOr a = true then ypush (dropP isAO W C) 11 o (skp tp (a+2))
  else if 25 ∈ W then yflt (1, a) else (2, [], C ++ W, o, a)
def tstep (tp : List Nat) (s : YS) : YS := match s.1 with
  | 0 => tP tp s.2.1 s.2.2.1 s.2.2.2.1 s.2.2.2.2
  | 1 => tG tp s.2.1 s.2.2.1 s.2.2.2.1 s.2.2.2.2
  | _+2 => s
def tit (tp : List Nat) : Nat → YS → YS
  | 0, s => s
  | k+1, s => tit tp k (tstep tp s)
def TRc (tp : List Nat) (s t : YS) : Prop := ∃ k, tit tp k s = t
theorem TRc.rf {tp : List Nat} {s : YS} : TRc tp s s := ⟨0, rfl⟩
theorem tit_add (tp : List Nat) : ∀ (j k : Nat) (s : YS), tit tp (j + k) s = tit tp k (tit tp j s)
  | 0, k, s => by rw [Nat.zero_add]; rfl
  | j+1, k, s => by
    rw [show j + 1 + k = (j + k) + 1 by omega]
    exact tit_add tp j k (tstep tp s)
theorem TRc.tr {tp : List Nat} {s t u : YS} (h1 : TRc tp s t) (h2 : TRc tp t u) : TRc tp s u := by
  obtain ⟨j, rfl⟩ := h1
  obtain ⟨k, rfl⟩ := h2
  exact ⟨j + k, tit_add tp j k s⟩
theorem TRc.one {tp : List Nat} {s t u : YS} (h1 : tstep tp s = t) (h2 : TRc tp t u) : TRc tp s u := by
  obtain ⟨k, rfl⟩ := h2
  exact ⟨k + 1, by show tit tp k (tstep tp s) = _; rw [h1]⟩
theorem tit_fix {tp : List Nat} {s : YS} (h : 2 ≤ s.1) : ∀ k, tit tp k s = s
  | 0 => rfl
  | k+1 => by
    have e : tstep tp s = s := by
      obtain ⟨m, hm⟩ : ∃ m, s.1 = m + 2 := ⟨s.1 - 2, by omega⟩
      unfold tstep
      rw [hm]
    show tit tp k (tstep tp s) = s
    rw [e]
    exact tit_fix h k
theorem TRc.uniq {tp : List Nat} {s t u : YS} (h1 : TRc tp s t) (h2 : TRc tp s u) (ht : 2 ≤ t.1) (hu : 2 ≤ u.1) : t = u := by
  obtain ⟨j, rfl⟩ := h1
  obtain ⟨k, rfl⟩ := h2
  rcases Nat.le_total j k with h | h
  · obtain ⟨i, rfl⟩ : ∃ i, k = j + i := ⟨k - j, by omega⟩
    rw [tit_add, tit_fix ht]
  · obtain ⟨i, rfl⟩ : ∃ i, j = k + i := ⟨j - k, by omega⟩
    rw [tit_add, tit_fix hu]
theorem kw_n93 {tp w : List Nat} {a : Nat} (h : kw tp w a = true) : ¬ tp[a]? = some 93 := by
  intro e
  have := (kw_end h).2.1
  rw [isAt_some e] at this
  cases this
theorem drN_top {W : List Nat} (h : topN isNt W) (C : List Nat) (o : Nat) : drN W C o = (W, C, o) := by
  cases W with
  | nil => rfl
  | cons v W =>
    have := of_decide_eq_false (h v rfl)
    show (if v = 12 then _ else _) = _
    rw [if_neg this]
theorem drS_ops : ∀ (ops W C : List Nat), (∀ x ∈ ops, isAO x = true) → drS (ops ++ 25 :: W) C = (W, C ++ ops)
  | [], W, C, _ => by simp [drS]
  | v :: ops, W, C, h => by
    have hv := of_decide_eq_true (h v List.mem_cons_self)
    show (if v = 25 then _ else drS (ops ++ 25 :: W) (C ++ [v])) = _
    rw [if_neg (by omega), drS_ops ops W _ (fun x hx => h x (List.mem_cons_of_mem _ hx))]
    simp
def TR (tp : List Nat) (s : YS) (W C : List Nat) (o : Nat) (p : Nat → Bool) (b : Bool) (r : PR (List Nat)) : Prop := match r with
  | .ok x => ∃ ops C1, TRc tp s (1, ops ++ W, C1, o, x.2) ∧ C1 ++ ops = C ++ x.1 ∧ (∀ v ∈ ops, p v = true) ∧ kw tp wAnd x.2 = false ∧ (b = true → kw tp wOr x.2 = false)
  | .error f => TRc tp s (yflt f)
def TA (tp : List Nat) (s : YS) (W C : List Nat) (o : Nat) (r : PR (List Nat)) : Prop := match r with
  | .ok x => TRc tp s (ymk (drN W (C ++ x.1) o) x.2)
  | .error f => TRc tp s (yflt f)
theorem TR.pre {tp : List Nat} {s t : YS} {W C : List Nat} {o : Nat} {p : Nat → Bool} {b : Bool} {r : PR (List Nat)} (h1 : TRc tp s t) (h : TR tp t W C o p b r) : TR tp s W C o p b r := by
  cases r with
  | ok x => obtain ⟨ops, C1, a1, a2⟩ := h; exact ⟨ops, C1, h1.tr a1, a2⟩
  | error f => exact h1.tr h
theorem isAnd_ao {v : Nat} (h : isAnd v = true) : isAO v = true := by
  have := of_decide_eq_true h
  exact decide_eq_true (Or.inl this)
theorem topA {W : List Nat} (h : topN isAO W) : topN isAnd W := fun v hv => by
  have := h v hv
  cases hc : isAnd v with
  | false => rfl
  | true => rw [isAnd_ao hc] at this; cases this
theorem tst_yard (tp : List Nat) : ∀ (f : Nat),
    (∀ o a W C r, topN isAO W → topN isNt W → tst tp f 0 o [] a = some r → TR tp (0, W, C, o, a) W C o isAO true r) ∧
    (∀ o a W C r, topN isAnd W → topN isNt W → tst tp f 1 o [] a = some r → TR tp (0, W, C, o, a) W C o isAnd false r) ∧
    (∀ o a W C r, tst tp f 2 o [] a = some r → TA tp (0, W, C, o, a) W C o r) ∧
    (∀ o a acc W C ops C1 r, topN isAO W → topN isNt W → C1 ++ ops = C ++ acc → (∀ v ∈ ops, isAO v = true) → kw tp wAnd a = false → tst tp f 3 o acc a = some r → TR tp (1, ops ++ W, C1, o, a) W C o isAO true r) ∧
    (∀ o a acc W C ops C1 r, topN isAnd W → topN isNt W → C1 ++ ops = C ++ acc → (∀ v ∈ ops, isAnd v = true) → tst tp f 4 o acc a = some r → TR tp (1, ops ++ W, C1, o, a) W C o isAnd false r) := by
  intro f
  induction f with
  | zero => refine ⟨?_, ?_, ?_, ?_, ?_⟩ <;> (intros; rename_i h; cases h)
  | succ f ih =>
    obtain ⟨i0, i1, i2, i3, i4⟩ := ih
    refine ⟨?_, ?_, ?_, ?_, ?_⟩
    · intro o a W C r hW hO h
      rcases okThen_some h with ⟨x, h1, h2⟩ | ⟨e, h1, rfl⟩
      · obtain ⟨ops, C1, a1, a2, a3, a4, -⟩ := i1 o a W C _ (topA hW) hO h1
        exact TR.pre a1 (i3 o x.2 x.1 W C ops C1 r hW hO a2 (fun v hv => isAnd_ao (a3 v hv)) a4 h2)
      · exact i1 o a W C _ (topA hW) hO h1
    · intro o a W C r hW hO h
      rcases okThen_some h with ⟨x, h1, h2⟩ | ⟨e, h1, rfl⟩
      · have a1 : TRc tp (0, W, C, o, a) (ymk (drN W (C ++ x.1) o) x.2) := i2 o a W C _ h1
        rw [drN_top hO] at a1
        exact TR.pre a1 (i4 o x.2 x.1 W C [] (C ++ x.1) r hW hO (by simp) (fun v hv => by simp at hv) h2)
      · exact i2 o a W C _ h1
    · intro o a W C r h
      by_cases h91 : tp[a]? = some 91
      · have hs : tstep tp (0, W, C, o, a) = if o = 6 then yflt (4, a) else (0, 25 :: W, C, o + 1, skp tp (a+1)) := if_pos h91
        unfold tst at h
        rw [if_pos h91] at h
        by_cases h6 : o = 6
        · rw [if_pos h6] at h hs
          cases h
          exact TRc.one hs TRc.rf
        · rw [if_neg h6] at h hs
          have ht : topN isAO (25 :: W) := fun v hv => by cases hv; rfl
          have hto : topN isNt (25 :: W) := fun v hv => by cases hv; rfl
          rcases okThen_some h with ⟨x, h1, h2⟩ | ⟨e, h1, rfl⟩
          · obtain ⟨ops, C1, a1, a2, a3, a4, a5⟩ := i0 (o+1) _ (25 :: W) C _ ht hto h1
            have a5 := a5 rfl
            have hm : 25 ∈ ops ++ 25 :: W := by simp
            rcases posThen_some h2 with ⟨b, h3, h4⟩ | ⟨e, h3, rfl⟩
            · obtain ⟨h5, rfl⟩ := askS_ok h3
              cases h4
              refine TRc.one hs (a1.tr (TRc.one (t := ymk (drN W (C ++ x.1) o) (skp tp (x.2+1))) ?_ TRc.rf))
              show tG tp (ops ++ 25 :: W) C1 (o+1) x.2 = _
              unfold tG
              rw [if_pos ⟨h5, hm⟩, drS_ops _ _ _ a3, a2]
              rfl
            · obtain ⟨h5, rfl⟩ := askS_er h3
              refine TRc.one hs (a1.tr (TRc.one (t := yflt (1, x.2)) ?_ TRc.rf))
              show tG tp (ops ++ 25 :: W) C1 (o+1) x.2 = _
              unfold tG
              rw [if_neg (fun q => h5 q.1), if_neg (by rw [a4]; decide), if_neg (by rw [a5]; decide), if_pos hm]
          · exact TRc.one hs (i0 (o+1) _ (25 :: W) C _ ht hto h1)
      · unfold tst at h
        rw [if_neg h91] at h
        by_cases hn : kw tp wNot a = true
        · have hs : tstep tp (0, W, C, o, a) = if o = 6 then yflt (4, a) else (0, 12 :: W, C, o + 1, skp tp (a+3)) := by
            show tP tp W C o a = _
            unfold tP
            rw [if_neg h91, if_pos hn]
          rw [if_pos hn] at h
          by_cases h6 : o = 6
          · rw [if_pos h6] at h hs
            cases h
            exact TRc.one hs TRc.rf
          · rw [if_neg h6] at h hs
            rcases okThen_some h with ⟨x, h1, h2⟩ | ⟨e, h1, rfl⟩
            · cases h2
              have a1 : TRc tp (0, 12 :: W, C, o + 1, skp tp (a+3)) (ymk (drN (12 :: W) (C ++ x.1) (o+1)) x.2) := i2 (o+1) _ (12 :: W) C _ h1
              have e1 : drN (12 :: W) (C ++ x.1) (o+1) = drN W (C ++ (x.1 ++ [12])) o := by
                show (if 12 = 12 then drN W (C ++ x.1 ++ [12]) (o + 1 - 1) else _) = _
                rw [if_pos rfl, List.append_assoc]
                rfl
              rw [e1] at a1
              exact TRc.one hs a1
            · exact TRc.one hs (i2 (o+1) _ (12 :: W) C _ h1)
        · rw [if_neg hn] at h
          cases h
          have hs : tstep tp (0, W, C, o, a) = match factP tp o a with
              | .ok x => ymk (drN W (C ++ x.1) o) x.2
              | .error f => yflt f := by
            show tP tp W C o a = _
            unfold tP
            rw [if_neg h91, if_neg hn]
          cases hf : factP tp o a with
          | ok x => rw [hf] at hs; exact TRc.one hs TRc.rf
          | error e => rw [hf] at hs; exact TRc.one hs TRc.rf
    · intro o a acc W C ops C1 r hW hO hc hops hka h
      unfold tst at h
      by_cases hk : kw tp wOr a = true
      · rw [if_pos hk] at h
        have hs : tstep tp (1, ops ++ W, C1, o, a) = (0, 11 :: W, C1 ++ ops, o, skp tp (a+2)) := by
          show tG tp (ops ++ W) C1 o a = _
          unfold tG
          rw [if_neg (fun q => kw_n93 hk q.1), if_neg (by rw [hka]; decide), if_pos hk, yG_op hops hW]
          rfl
        have ht : topN isAnd (11 :: W) := fun v hv => by cases hv; rfl
        have hto : topN isNt (11 :: W) := fun v hv => by cases hv; rfl
        rcases okThen_some h with ⟨x, h1, h2⟩ | ⟨e, h1, rfl⟩
        · obtain ⟨ops', C1', a1, a2, a3, a4, -⟩ := i1 o _ (11 :: W) (C1 ++ ops) _ ht hto h1
          have a1 : TRc tp (0, 11 :: W, C1 ++ ops, o, skp tp (a+2)) (1, (ops' ++ [11]) ++ W, C1', o, x.2) := by
            rw [List.append_assoc]
            exact a1
          refine TR.pre (TRc.one hs a1) (i3 o x.2 _ W C (ops' ++ [11]) C1' r hW hO ?_ (fun v hv => ?_) a4 h2)
          · rw [← List.append_assoc, a2, hc]
            simp
          · rcases List.mem_append.mp hv with e | e
            · exact isAnd_ao (a3 v e)
            · simp at e; rw [e]; rfl
        · exact TRc.one hs (i1 o _ (11 :: W) (C1 ++ ops) _ ht hto h1)
      · rw [if_neg hk] at h
        cases h
        exact ⟨ops, C1, TRc.rf, hc, hops, hka, fun _ => by simpa using hk⟩
    · intro o a acc W C ops C1 r hW hO hc hops h
      unfold tst at h
      by_cases hk : kw tp wAnd a = true
      · rw [if_pos hk] at h
        have hs : tstep tp (1, ops ++ W, C1, o, a) = (0, 10 :: W, C1 ++ ops, o, skp tp (a+3)) := by
          show tG tp (ops ++ W) C1 o a = _
          unfold tG
          rw [if_neg (fun q => kw_n93 hk q.1), if_pos hk, yG_op hops hW]
          rfl
        rcases okThen_some h with ⟨x, h1, h2⟩ | ⟨e, h1, rfl⟩
        · have a1 : TRc tp (0, 10 :: W, C1 ++ ops, o, skp tp (a+3)) (ymk (drN (10 :: W) (C1 ++ ops ++ x.1) o) x.2) := i2 o _ (10 :: W) (C1 ++ ops) _ h1
          have hto : topN isNt (10 :: W) := fun v hv => by cases hv; rfl
          rw [drN_top hto] at a1
          have a1 : TRc tp (0, 10 :: W, C1 ++ ops, o, skp tp (a+3)) (1, [10] ++ W, C1 ++ ops ++ x.1, o, x.2) := a1
          refine TR.pre (TRc.one hs a1) (i4 o x.2 _ W C [10] (C1 ++ ops ++ x.1) r hW hO ?_ (fun v hv => ?_) h2)
          · rw [hc]
            simp
          · simp at hv; rw [hv]; rfl
        · exact TRc.one hs (i2 o _ (10 :: W) (C1 ++ ops) _ h1)
      · rw [if_neg hk] at h
        cases h
        exact ⟨ops, C1, TRc.rf, hc, hops, by simpa using hk, fun q => by cases q⟩
/-- the yard tells the test's codes -/
theorem tst_yard0 {tp : List Nat} {f o a : Nat} {C : List Nat} {r : PR (List Nat)} (h : tst tp f 0 o [] a = some r) : TRc tp (0, [], C, o, a) (match r with
    | .ok x => (2, [], C ++ x.1, o, x.2)
    | .error e => yflt e) := by
  have := (tst_yard tp f).1 o a [] C r (fun v hv => by cases hv) (fun v hv => by cases hv) h
  cases r with
  | error e => exact this
  | ok x =>
    obtain ⟨ops, C1, a1, a2, a3, a4, a5⟩ := this
    rw [List.append_nil] at a1
    have hn : 25 ∉ ops := fun q => by
      have := of_decide_eq_true (a3 25 q)
      omega
    refine a1.tr (TRc.one (t := (2, [], C ++ x.1, o, x.2)) ?_ TRc.rf)
    show tG tp ops C1 o x.2 = _
    unfold tG
    rw [if_neg (fun q => hn q.2), if_neg (by rw [a4]; decide), if_neg (by rw [a5 rfl]; decide), if_neg hn, a2]
