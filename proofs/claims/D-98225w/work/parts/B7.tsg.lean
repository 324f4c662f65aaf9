/-! what a test's codes are: one truth; it always ends. Kinds on the pile: false a number, true a truth -/
def tyS (c : Nat) (ts : List Bool) : Option (List Bool) :=
  if psh true c = true then some (false :: ts) else if c = 13 then some (true :: ts)
  else if 60 ≤ c ∧ c ≤ 62 then (match ts with
    | false :: r => some (false :: r)
    | _ => none)
  else if c = 12 then (match ts with
    | true :: r => some (true :: r)
    | _ => none)
  else if 1 ≤ c ∧ c ≤ 6 then (match ts with
    | false :: false :: r => some (false :: r)
    | _ => none)
  else if 7 ≤ c ∧ c ≤ 9 then (match ts with
    | false :: false :: r => some (true :: r)
    | _ => none)
  else if 10 ≤ c ∧ c ≤ 11 then (match ts with
    | true :: true :: r => some (true :: r)
    | _ => none)
  else none
def tyq : List Nat → List Bool → Option (List Bool)
  | [], ts => some ts
  | c :: cs, ts => (tyS c ts).bind (tyq cs)
def OneQ (b : Bool) (cs : List Nat) : Prop := ∀ ts, tyq cs ts = some (b :: ts)
theorem tyq_app : ∀ (cs ds : List Nat) (ts : List Bool), tyq (cs ++ ds) ts = (tyq cs ts).bind (tyq ds)
  | [], ds, ts => rfl
  | c :: cs, ds, ts => by
    show (tyS c ts).bind (tyq (cs ++ ds)) = ((tyS c ts).bind (tyq cs)).bind (tyq ds)
    cases h : tyS c ts with
    | none => rfl
    | some z => exact tyq_app cs ds z
theorem psh_T {c : Nat} : psh true c = true ↔ (1000 ≤ c ∧ c ≤ 10999) ∨ (40 ≤ c ∧ c ≤ 42) := by
  unfold psh
  simp
theorem tyS_psh {c : Nat} {ts : List Bool} (h : psh true c = true) : tyS c ts = some (false :: ts) := if_pos h
theorem tyS_all {ts : List Bool} : tyS 13 ts = some (true :: ts) := rfl
theorem np {c : Nat} (h : c ≤ 39 ∨ (43 ≤ c ∧ c ≤ 999)) : ¬ psh true c = true := fun q => by have := psh_T.mp q; omega
theorem tyS_of {c : Nat} {ts : List Bool} (h : 60 ≤ c ∧ c ≤ 62) : tyS c (false :: ts) = some (false :: ts) := by
  unfold tyS
  rw [if_neg (np (by omega)), if_neg (by omega), if_pos h]
theorem tyS_not {ts : List Bool} : tyS 12 (true :: ts) = some (true :: ts) := rfl
theorem tyS_op {c : Nat} {ts : List Bool} (h : 1 ≤ c ∧ c ≤ 6) : tyS c (false :: false :: ts) = some (false :: ts) := by
  unfold tyS
  rw [if_neg (np (by omega)), if_neg (by omega), if_neg (by omega), if_neg (by omega), if_pos h]
theorem tyS_sg {c : Nat} {ts : List Bool} (h : 7 ≤ c ∧ c ≤ 9) : tyS c (false :: false :: ts) = some (true :: ts) := by
  unfold tyS
  rw [if_neg (np (by omega)), if_neg (by omega), if_neg (by omega), if_neg (by omega), if_neg (by omega), if_pos h]
theorem tyS_ao {c : Nat} {ts : List Bool} (h : 10 ≤ c ∧ c ≤ 11) : tyS c (true :: true :: ts) = some (true :: ts) := by
  unfold tyS
  rw [if_neg (np (by omega)), if_neg (by omega), if_neg (by omega), if_neg (by omega), if_neg (by omega), if_neg (by omega), if_pos h]
theorem hgt_ty : ∀ (cs : List Nat) (n m : Nat) (ts : List Bool), hgt true cs n = some m → tyq cs (List.replicate n false ++ ts) = some (List.replicate m false ++ ts)
  | [], n, m, ts, h => by cases h; rfl
  | c :: cs, n, m, ts, h => by
    rw [hgt_c] at h
    show (tyS c (List.replicate n false ++ ts)).bind (tyq cs) = _
    by_cases e : psh true c = true
    · rw [if_pos e] at h
      rw [tyS_psh e]
      exact hgt_ty cs (n+1) m ts h
    · rw [if_neg e] at h
      by_cases e2 : 60 ≤ c ∧ c ≤ 62
      · rw [if_pos ⟨rfl, e2⟩] at h
        by_cases e3 : 1 ≤ n
        · rw [if_pos e3] at h
          obtain ⟨k, rfl⟩ : ∃ k, n = k + 1 := ⟨n - 1, by omega⟩
          have := hgt_ty cs (k+1) m ts h
          show (tyS c (false :: (List.replicate k false ++ ts))).bind (tyq cs) = _
          rw [tyS_of e2]
          exact this
        · rw [if_neg e3] at h; cases h
      · rw [if_neg (fun q => e2 q.2)] at h
        by_cases e3 : 1 ≤ c ∧ c ≤ 6 ∧ 2 ≤ n
        · rw [if_pos e3] at h
          obtain ⟨k, rfl⟩ : ∃ k, n = k + 2 := ⟨n - 2, by omega⟩
          have := hgt_ty cs (k+1) m ts h
          show (tyS c (false :: false :: (List.replicate k false ++ ts))).bind (tyq cs) = _
          rw [tyS_op ⟨e3.1, e3.2.1⟩]
          exact this
        · rw [if_neg e3] at h; cases h
theorem OneV.t {cs : List Nat} (h : OneV true cs) : OneQ false cs := fun ts => hgt_ty cs 0 1 ts (h 0)
theorem OneQ.two {b1 b2 b : Bool} {cs ds : List Nat} {v : Nat} (h1 : OneQ b1 cs) (h2 : OneQ b2 ds) (hv : ∀ ts, tyS v (b2 :: b1 :: ts) = some (b :: ts)) : OneQ b (cs ++ ds ++ [v]) := by
  intro ts
  rw [List.append_assoc, tyq_app, h1 ts]
  show tyq (ds ++ [v]) (b1 :: ts) = _
  rw [tyq_app, h2]
  show (tyS v (b2 :: b1 :: ts)).bind (tyq []) = _
  rw [hv]
  rfl
theorem OneQ.not {cs : List Nat} (h1 : OneQ true cs) : OneQ true (cs ++ [12]) := by
  intro ts
  rw [tyq_app, h1 ts]
  rfl
theorem OneQ.all : OneQ true [13] := fun ts => rfl
def GdQ (tp : List Nat) (a : Nat) (x : List Nat × Nat) : Prop := OneQ true x.1 ∧ a < x.2 ∧ x.2 ≤ tp.length ∧ x.1.length + a ≤ x.2
def GdU (tp : List Nat) (acc : List Nat) (a : Nat) (x : List Nat × Nat) : Prop := OneQ true x.1 ∧ a ≤ x.2 ∧ x.2 ≤ tp.length ∧ x.1.length + a ≤ acc.length + x.2
theorem sgnC_ok {tp : List Nat} {a c : Nat} (h : sgnC tp a = some c) : a < tp.length ∧ (c = 7 ∨ c = 8 ∨ c = 9) := by
  unfold sgnC at h
  split at h
  · rename_i e; cases h; exact ⟨get_lt e, by omega⟩
  · split at h
    · rename_i e; cases h; exact ⟨get_lt e, by omega⟩
    · split at h
      · rename_i e; cases h; exact ⟨get_lt e, by omega⟩
      · cases h
theorem factP_good {tp : List Nat} {o a : Nat} {x : List Nat × Nat} (ha : a ≤ tp.length) (h : factP tp o a = .ok x) : GdQ tp a x := by
  unfold factP at h
  split at h
  · rename_i hk
    cases h
    have k1 : a + 3 ≤ tp.length := kwL hk
    have k2 := skp_ge tp (a+3)
    have k3 := skp_le (tp := tp) (a := a+3) (by omega)
    exact ⟨OneQ.all, by show a < skp tp (a+3); omega, k3, by show 1 + a ≤ skp tp (a+3); omega⟩
  · cases hs : sumP true tp o a with
    | error f => rw [hs] at h; cases h
    | ok y =>
      rw [hs] at h
      obtain ⟨g1, g2, g3, g4⟩ := sumP_good ha hs
      cases hc : sgnC tp y.2 with
      | none => simp only [hc] at h; cases h
      | some c =>
        simp only [hc] at h
        obtain ⟨s1, s2⟩ := sgnC_ok hc
        have k2 := skp_ge tp (y.2+1)
        have k3 := skp_le (tp := tp) (a := y.2+1) (by omega)
        cases hs2 : sumP true tp o (skp tp (y.2+1)) with
        | error f => rw [hs2] at h; cases h
        | ok z =>
          rw [hs2] at h
          cases h
          obtain ⟨l1, l2, l3, l4⟩ := sumP_good k3 hs2
          refine ⟨g1.t.two l1.t (fun ts => tyS_sg (by omega)), by show a < z.2; omega, l3, ?_⟩
          show (y.1 ++ z.1 ++ [c]).length + a ≤ z.2
          simp only [List.length_append, List.length_cons, List.length_nil]
          omega
theorem tst_good (tp : List Nat) : ∀ (f : Nat),
    (∀ o a x, a ≤ tp.length → tst tp f 0 o [] a = some (.ok x) → GdQ tp a x) ∧
    (∀ o a x, a ≤ tp.length → tst tp f 1 o [] a = some (.ok x) → GdQ tp a x) ∧
    (∀ o a x, a ≤ tp.length → tst tp f 2 o [] a = some (.ok x) → GdQ tp a x) ∧
    (∀ o a acc x, a ≤ tp.length → OneQ true acc → tst tp f 3 o acc a = some (.ok x) → GdU tp acc a x) ∧
    (∀ o a acc x, a ≤ tp.length → OneQ true acc → tst tp f 4 o acc a = some (.ok x) → GdU tp acc a x) := by
  intro f
  induction f with
  | zero => refine ⟨?_, ?_, ?_, ?_, ?_⟩ <;> (intros; rename_i h; cases h)
  | succ f ih =>
    obtain ⟨i0, i1, i2, i3, i4⟩ := ih
    refine ⟨?_, ?_, ?_, ?_, ?_⟩
    · intro o a x ha h
      rcases okThen_some h with ⟨y, h1, h2⟩ | ⟨e, h1, h2⟩
      · obtain ⟨g1, g2, g3, g4⟩ := i1 o a y ha h1
        obtain ⟨k1, k2, k3, k4⟩ := i3 o _ _ x g3 g1 h2
        exact ⟨k1, by omega, k3, by omega⟩
      · cases h2
    · intro o a x ha h
      rcases okThen_some h with ⟨y, h1, h2⟩ | ⟨e, h1, h2⟩
      · obtain ⟨g1, g2, g3, g4⟩ := i2 o a y ha h1
        obtain ⟨k1, k2, k3, k4⟩ := i4 o _ _ x g3 g1 h2
        exact ⟨k1, by omega, k3, by omega⟩
      · cases h2
    · intro o a x ha h
      unfold tst at h
      split at h
      · rename_i h91
        have hl := get_lt h91
        split at h
        · cases h
        · have k2 := skp_ge tp (a+1)
          have k3 := skp_le (tp := tp) (a := a+1) (by omega)
          rcases okThen_some h with ⟨y, h1, h2⟩ | ⟨e, h1, h2⟩
          · obtain ⟨g1, g2, g3, g4⟩ := i0 _ _ y k3 h1
            rcases posThen_some h2 with ⟨b, h3, h4⟩ | ⟨e, h3, h4⟩
            · obtain ⟨h5, rfl⟩ := askS_ok h3
              cases h4
              have k4 := skp_ge tp (y.2+1)
              have k5 := get_lt h5
              have k6 := skp_le (tp := tp) (a := y.2+1) (by omega)
              exact ⟨g1, by show a < skp tp (y.2+1); omega, k6, by show y.1.length + a ≤ skp tp (y.2+1); omega⟩
            · cases h4
          · cases h2
      · split at h
        · rename_i hk
          have hl : a + 3 ≤ tp.length := kwL hk
          split at h
          · cases h
          · have k2 := skp_ge tp (a+3)
            have k3 := skp_le (tp := tp) (a := a+3) (by omega)
            rcases okThen_some h with ⟨y, h1, h2⟩ | ⟨e, h1, h2⟩
            · obtain ⟨g1, g2, g3, g4⟩ := i2 _ _ y k3 h1
              cases h2
              refine ⟨g1.not, by show a < y.2; omega, g3, ?_⟩
              show (y.1 ++ [12]).length + a ≤ y.2
              simp only [List.length_append, List.length_cons, List.length_nil]
              omega
            · cases h2
        · exact factP_good ha (Option.some.inj h)
    · intro o a acc x ha hA h
      unfold tst at h
      split at h
      · rename_i hk
        have hl : a + 2 ≤ tp.length := kwL hk
        have k2 := skp_ge tp (a+2)
        have k3 := skp_le (tp := tp) (a := a+2) (by omega)
        rcases okThen_some h with ⟨y, h1, h2⟩ | ⟨e, h1, h2⟩
        · obtain ⟨g1, g2, g3, g4⟩ := i1 _ _ y k3 h1
          obtain ⟨l1, l2, l3, l4⟩ := i3 _ _ _ x g3 (hA.two g1 (fun ts => tyS_ao (by omega))) h2
          simp only [List.length_append, List.length_cons, List.length_nil] at l4
          exact ⟨l1, by omega, l3, by omega⟩
        · cases h2
      · cases h
        exact ⟨hA, Nat.le_refl _, ha, by show acc.length + a ≤ acc.length + a; omega⟩
    · intro o a acc x ha hA h
      unfold tst at h
      split at h
      · rename_i hk
        have hl : a + 3 ≤ tp.length := kwL hk
        have k2 := skp_ge tp (a+3)
        have k3 := skp_le (tp := tp) (a := a+3) (by omega)
        rcases okThen_some h with ⟨y, h1, h2⟩ | ⟨e, h1, h2⟩
        · obtain ⟨g1, g2, g3, g4⟩ := i2 _ _ y k3 h1
          obtain ⟨l1, l2, l3, l4⟩ := i4 _ _ _ x g3 (hA.two g1 (fun ts => tyS_ao (by omega))) h2
          simp only [List.length_append, List.length_cons, List.length_nil] at l4
          exact ⟨l1, by omega, l3, by omega⟩
        · cases h2
      · cases h
        exact ⟨hA, Nat.le_refl _, ha, by show acc.length + a ≤ acc.length + a; omega⟩
theorem tst_tot (tp : List Nat) : ∀ (f : Nat),
    (∀ o a, a ≤ tp.length → 3 * (tp.length - a) + 3 ≤ f → ∃ z, tst tp f 0 o [] a = some z) ∧
    (∀ o a, a ≤ tp.length → 3 * (tp.length - a) + 2 ≤ f → ∃ z, tst tp f 1 o [] a = some z) ∧
    (∀ o a, a ≤ tp.length → 3 * (tp.length - a) + 1 ≤ f → ∃ z, tst tp f 2 o [] a = some z) ∧
    (∀ o a acc, a ≤ tp.length → 3 * (tp.length - a) + 1 ≤ f → ∃ z, tst tp f 3 o acc a = some z) ∧
    (∀ o a acc, a ≤ tp.length → 3 * (tp.length - a) + 1 ≤ f → ∃ z, tst tp f 4 o acc a = some z) := by
  intro f
  induction f with
  | zero => refine ⟨?_, ?_, ?_, ?_, ?_⟩ <;> (intros; omega)
  | succ f ih =>
    obtain ⟨i0, i1, i2, i3, i4⟩ := ih
    obtain ⟨j0, j1, j2, -, -⟩ := tst_good tp f
    refine ⟨?_, ?_, ?_, ?_, ?_⟩
    · intro o a ha hf
      refine okThen_tot (i1 o a ha (by omega)) (fun x hx => ?_)
      obtain ⟨-, g2, g3, -⟩ := j1 o a x ha hx
      exact i3 o _ _ g3 (by omega)
    · intro o a ha hf
      refine okThen_tot (i2 o a ha (by omega)) (fun x hx => ?_)
      obtain ⟨-, g2, g3, -⟩ := j2 o a x ha hx
      exact i4 o _ _ g3 (by omega)
    · intro o a ha hf
      unfold tst
      split
      · rename_i h91
        have hl := get_lt h91
        have k2 := skp_ge tp (a+1)
        have k3 := skp_le (tp := tp) (a := a+1) (by omega)
        split
        · exact ⟨_, rfl⟩
        · exact okThen_tot (i0 _ _ k3 (by omega)) (fun x hx => posThen_tot (fun b hb => ⟨_, rfl⟩))
      · split
        · rename_i hk
          have hl : a + 3 ≤ tp.length := kwL hk
          have k2 := skp_ge tp (a+3)
          have k3 := skp_le (tp := tp) (a := a+3) (by omega)
          split
          · exact ⟨_, rfl⟩
          · exact okThen_tot (i2 _ _ k3 (by omega)) (fun x hx => ⟨_, rfl⟩)
        · exact ⟨_, rfl⟩
    · intro o a acc ha hf
      unfold tst
      split
      · rename_i hk
        have hl : a + 2 ≤ tp.length := kwL hk
        have k2 := skp_ge tp (a+2)
        have k3 := skp_le (tp := tp) (a := a+2) (by omega)
        refine okThen_tot (i1 _ _ k3 (by omega)) (fun x hx => ?_)
        obtain ⟨-, g2, g3, -⟩ := j1 _ _ x k3 hx
        exact i3 _ _ _ g3 (by omega)
      · exact ⟨_, rfl⟩
    · intro o a acc ha hf
      unfold tst
      split
      · rename_i hk
        have hl : a + 3 ≤ tp.length := kwL hk
        have k2 := skp_ge tp (a+3)
        have k3 := skp_le (tp := tp) (a := a+3) (by omega)
        refine okThen_tot (i2 _ _ k3 (by omega)) (fun x hx => ?_)
        obtain ⟨-, g2, g3, -⟩ := j2 _ _ x k3 hx
        exact i4 _ _ _ g3 (by omega)
      · exact ⟨_, rfl⟩
/-- the test that stands at a place -/
def testP (tp : List Nat) (o a : Nat) : PR (List Nat) := (tst tp (3 * (tp.length - a) + 3) 0 o [] a).getD (.error (9, 0))
theorem testP_is {tp : List Nat} {o a : Nat} (ha : a ≤ tp.length) : tst tp (3 * (tp.length - a) + 3) 0 o [] a = some (testP tp o a) := by
  obtain ⟨z, hz⟩ := (tst_tot tp _).1 o a ha (Nat.le_refl _)
  unfold testP
  rw [hz]
  rfl
theorem testP_good {tp : List Nat} {o a : Nat} {x : List Nat × Nat} (ha : a ≤ tp.length) (h : testP tp o a = .ok x) : GdQ tp a x := (tst_good tp _).1 o a x ha (by rw [testP_is ha, h])
