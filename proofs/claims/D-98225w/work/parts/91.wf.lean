/-! what a sum's codes are: one value; where it ends; it always ends -/
def psh (q : Bool) (c : Nat) : Bool := decide (1000 ≤ c ∧ c ≤ 10999) || (if q = true then decide (40 ≤ c ∧ c ≤ 42) else decide (7 ≤ c ∧ c ≤ 10))
def hgt (q : Bool) : List Nat → Nat → Option Nat
  | [], n => some n
  | c :: cs, n => if psh q c = true then hgt q cs (n+1) else if q = true ∧ 60 ≤ c ∧ c ≤ 62 then (if 1 ≤ n then hgt q cs n else none) else if 1 ≤ c ∧ c ≤ 6 ∧ 2 ≤ n then hgt q cs (n-1) else none
def OneV (q : Bool) (cs : List Nat) : Prop := ∀ n, hgt q cs n = some (n+1)
theorem hgt_c (q : Bool) (c : Nat) (cs : List Nat) (n : Nat) : hgt q (c :: cs) n = if psh q c = true then hgt q cs (n+1) else if q = true ∧ 60 ≤ c ∧ c ≤ 62 then (if 1 ≤ n then hgt q cs n else none) else if 1 ≤ c ∧ c ≤ 6 ∧ 2 ≤ n then hgt q cs (n-1) else none := rfl
theorem hgt_app (q : Bool) : ∀ (cs ds : List Nat) (n m : Nat), hgt q cs n = some m → hgt q (cs ++ ds) n = hgt q ds m
  | [], ds, n, m, h => by cases h; rfl
  | c :: cs, ds, n, m, h => by
    show hgt q (c :: (cs ++ ds)) n = _
    rw [hgt_c] at h ⊢
    by_cases e : psh q c = true
    · rw [if_pos e] at h ⊢
      exact hgt_app q cs ds _ m h
    · rw [if_neg e] at h ⊢
      by_cases e2 : q = true ∧ 60 ≤ c ∧ c ≤ 62
      · rw [if_pos e2] at h ⊢
        by_cases e3 : 1 ≤ n
        · rw [if_pos e3] at h ⊢
          exact hgt_app q cs ds _ m h
        · rw [if_neg e3] at h
          cases h
      · rw [if_neg e2] at h ⊢
        by_cases e3 : 1 ≤ c ∧ c ≤ 6 ∧ 2 ≤ n
        · rw [if_pos e3] at h ⊢
          exact hgt_app q cs ds _ m h
        · rw [if_neg e3] at h
          cases h
theorem OneV.op {q : Bool} {cs ds : List Nat} {v : Nat} (h1 : OneV q cs) (h2 : OneV q ds) (hv : 1 ≤ v ∧ v ≤ 6) : OneV q (cs ++ ds ++ [v]) := by
  intro n
  rw [List.append_assoc, hgt_app q cs _ n (n+1) (h1 n), hgt_app q ds _ (n+1) (n+2) (h2 (n+1))]
  have e : psh q v = false := by
    unfold psh
    rw [decide_eq_false (by omega)]
    cases q
    · exact decide_eq_false (by omega)
    · exact decide_eq_false (by omega)
  unfold hgt
  rw [if_neg (by rw [e]; decide), if_neg (by omega), if_pos ⟨hv.1, hv.2, by omega⟩]
  rfl
theorem OneV.of {q : Bool} {cs : List Nat} {v : Nat} (h1 : OneV q cs) (hq : q = true) (hv : 60 ≤ v ∧ v ≤ 62) : OneV q (cs ++ [v]) := by
  intro n
  rw [hgt_app q cs _ n (n+1) (h1 n)]
  subst hq
  have e : psh true v = false := by
    unfold psh
    rw [decide_eq_false (by omega)]
    exact decide_eq_false (by omega)
  unfold hgt
  rw [if_neg (by rw [e]; decide), if_pos ⟨rfl, hv.1, hv.2⟩, if_pos (by omega)]
  rfl
theorem OneV.one {q : Bool} {v : Nat} (h : psh q v = true) : OneV q [v] := by
  intro n
  unfold hgt
  rw [if_pos h]
  rfl
theorem findW_ok {tp : List Nat} : ∀ {l : List (List Nat × Nat)} {a : Nat} {x : Nat × Nat}, findW tp l a = some x → (∀ y ∈ l, y.1 ≠ []) → 1 ≤ x.2 ∧ a + x.2 ≤ tp.length ∧ ∃ w, (w, x.1) ∈ l ∧ x.2 = w.length ∧ kw tp w a = true
  | [], a, x, h, _ => by cases h
  | y :: l, a, x, h, hne => by
    unfold findW at h
    split at h
    · rename_i hk
      cases h
      have h1 := kw_end hk
      have h2 := kw_lt hk
      have h3 : wEn tp a ≤ tp.length := endE_le isL (by omega)
      have h4 := hne y List.mem_cons_self
      have h5 : 1 ≤ y.1.length := by
        cases hy : y.1 with
        | nil => exact absurd hy h4
        | cons _ _ => simp
      exact ⟨h5, by omega, y.1, List.mem_cons_self, rfl, hk⟩
    · obtain ⟨a1, a2, w, a3, a4⟩ := findW_ok h (fun z hz => hne z (List.mem_cons_of_mem _ hz))
      exact ⟨a1, a2, w, List.mem_cons_of_mem _ a3, a4⟩
theorem mmL_ne : ∀ y ∈ mmL, y.1 ≠ [] := by decide
theorem ofL_ne (q : Bool) : ∀ y ∈ ofL q, y.1 ≠ [] := by cases q <;> decide
theorem partL_ne (q : Bool) : ∀ y ∈ partL q, y.1 ≠ [] := by cases q <;> decide
theorem partL_psh (q : Bool) : ∀ y ∈ partL q, psh q y.2 = true := by cases q <;> decide
theorem ofL_q {q : Bool} {tp : List Nat} {a : Nat} {x : Nat × Nat} (h : findW tp (ofL q) a = some x) : q = true := by
  cases q with
  | true => rfl
  | false => cases h
theorem skp_ge (tp : List Nat) (a : Nat) : a ≤ skp tp a := endE_ge isB tp a
theorem skp_le {tp : List Nat} {a : Nat} (h : a ≤ tp.length) : skp tp a ≤ tp.length := endE_le isB h
theorem get_lt {tp : List Nat} {a c : Nat} (h : tp[a]? = some c) : a < tp.length := (List.getElem?_eq_some_iff.mp h).1
theorem numF_ok {tp : List Nat} {lo hi a : Nat} {x : Nat × Nat} (h : numF tp lo hi a = .ok x) : lo ≤ x.1 ∧ x.1 ≤ hi ∧ a < x.2 ∧ x.2 ≤ tp.length := by
  unfold numF at h
  split at h
  · cases h
  · rename_i h1
    split at h
    · cases h
    · split at h
      · rename_i h3
        cases h
        have hd : isAt isD tp a = true := by
          cases hc : isAt isD tp a with
          | true => rfl
          | false => exact absurd (Or.inl hc) h1
        have hl := isAt_lt hd
        have e1 : dEn tp a = dEn tp (a+1) := endE_step hd
        have e2 : a + 1 ≤ dEn tp (a+1) := endE_ge isD tp (a+1)
        have e3 : dEn tp a ≤ tp.length := endE_le isD (by omega)
        have e4 := skp_ge tp (dEn tp a)
        exact ⟨h3.1, h3.2, by show a < skp tp (dEn tp a); omega, skp_le e3⟩
      · cases h
/-- codes of a whole: one value, no more of them than bytes -/
def GdR (q : Bool) (tp : List Nat) (a : Nat) (x : List Nat × Nat) : Prop := OneV q x.1 ∧ a < x.2 ∧ x.2 ≤ tp.length ∧ x.1.length + a ≤ x.2
def GdT (q : Bool) (tp : List Nat) (acc : List Nat) (a : Nat) (x : List Nat × Nat) : Prop := OneV q x.1 ∧ a ≤ x.2 ∧ x.2 ≤ tp.length ∧ x.1.length + a ≤ acc.length + x.2
theorem prs_good (q : Bool) (tp : List Nat) : ∀ (f : Nat),
    (∀ o a x, a ≤ tp.length → prs q tp f 0 o [] a = some (.ok x) → GdR q tp a x) ∧
    (∀ o a x, a ≤ tp.length → prs q tp f 1 o [] a = some (.ok x) → GdR q tp a x) ∧
    (∀ o a x, a ≤ tp.length → prs q tp f 2 o [] a = some (.ok x) → GdR q tp a x) ∧
    (∀ o a acc x, a ≤ tp.length → OneV q acc → prs q tp f 3 o acc a = some (.ok x) → GdT q tp acc a x) ∧
    (∀ o a acc x, a ≤ tp.length → OneV q acc → prs q tp f 4 o acc a = some (.ok x) → GdT q tp acc a x) := by
  intro f
  induction f with
  | zero => refine ⟨?_, ?_, ?_, ?_, ?_⟩ <;> (intros; rename_i h; cases h)
  | succ f ih =>
    obtain ⟨i0, i1, i2, i3, i4⟩ := ih
    refine ⟨?_, ?_, ?_, ?_, ?_⟩
    · intro o a x ha h
      rcases okThen_some h with ⟨y, h1, h2⟩ | ⟨e, h1, h2⟩
      · obtain ⟨g1, g2, g3, g4⟩ := i1 o a y ha h1
        obtain ⟨k1, k2, k3, k4⟩ := i3 o _ _ x g3 g1 h2
        exact ⟨k1, by omega, k3, by omega⟩
      · cases h2
    · intro o a x ha h
      rcases okThen_some h with ⟨y, h1, h2⟩ | ⟨e, h1, h2⟩
      · obtain ⟨g1, g2, g3, g4⟩ := i2 o a y ha h1
        obtain ⟨k1, k2, k3, k4⟩ := i4 o _ _ x g3 g1 h2
        exact ⟨k1, by omega, k3, by omega⟩
      · cases h2
    · intro o a x ha h
      unfold prs at h
      split at h
      · rename_i h40
        have hl := get_lt h40
        have s1 := skp_ge tp (a+1)
        have s2 := skp_le (tp := tp) (a := a+1) (by omega)
        split at h
        · cases h
        · rcases okThen_some h with ⟨y, h1, h2⟩ | ⟨e, h1, h2⟩
          · obtain ⟨g1, g2, g3, g4⟩ := i0 _ _ y s2 h1
            rcases posThen_some h2 with ⟨b, h3, h4⟩ | ⟨e, h3, h4⟩
            · obtain ⟨h5, rfl⟩ := askS_ok h3
              cases h4
              have hl2 := get_lt h5
              have t1 := skp_ge tp (y.2+1)
              have t2 := skp_le (tp := tp) (a := y.2+1) (by omega)
              exact ⟨g1, by show a < skp tp (y.2+1); omega, t2, by show y.1.length + a ≤ skp tp (y.2+1); omega⟩
            · cases h4
          · cases h2
      · cases hmm : findW tp mmL a with
        | some w =>
          rw [hmm] at h
          simp only at h
          obtain ⟨w1, w2, -⟩ := findW_ok hmm mmL_ne
          have hx := findW_mm hmm
          have s0 := skp_ge tp (a + w.2)
          split at h
          · rename_i h40
            have hl := get_lt h40
            have s1 := skp_ge tp (skp tp (a + w.2) + 1)
            have s2 := skp_le (tp := tp) (a := skp tp (a + w.2) + 1) (by omega)
            split at h
            · cases h
            · rcases okThen_some h with ⟨y, h1, h2⟩ | ⟨e, h1, h2⟩
              · obtain ⟨g1, g2, g3, g4⟩ := i0 _ _ y s2 h1
                rcases posThen_some h2 with ⟨b, h3, h4⟩ | ⟨e, h3, h4⟩
                · obtain ⟨h5, rfl⟩ := askS_ok h3
                  have hl2 := get_lt h5
                  have t1 := skp_ge tp (y.2+1)
                  have t2 := skp_le (tp := tp) (a := y.2+1) (by omega)
                  rcases okThen_some h4 with ⟨z, k1, k2⟩ | ⟨e, k1, k2⟩
                  · obtain ⟨m1, m2, m3, m4⟩ := i0 _ _ z t2 k1
                    rcases posThen_some k2 with ⟨b', k3, k4⟩ | ⟨e, k3, k4⟩
                    · obtain ⟨k5, rfl⟩ := askS_ok k3
                      cases k4
                      have hl3 := get_lt k5
                      have u1 := skp_ge tp (z.2+1)
                      have u2 := skp_le (tp := tp) (a := z.2+1) (by omega)
                      refine ⟨g1.op m1 (by omega), by show a < skp tp (z.2+1); omega, u2, ?_⟩
                      show (y.1 ++ z.1 ++ [4 + w.1]).length + a ≤ skp tp (z.2+1)
                      rw [List.length_append, List.length_append, List.length_singleton]
                      omega
                    · cases k4
                  · cases k2
                · cases h4
              · cases h2
          · cases h
        | none =>
          rw [hmm] at h
          simp only at h
          cases hof : findW tp (ofL q) a with
          | some w =>
            rw [hof] at h
            simp only at h
            obtain ⟨w1, w2, -⟩ := findW_ok hof (ofL_ne q)
            have hx := findW_of hof
            have s1 := skp_ge tp (a + w.2)
            have s2 := skp_le (tp := tp) (a := a + w.2) w2
            split at h
            · cases h
            · rcases okThen_some h with ⟨y, h1, h2⟩ | ⟨e, h1, h2⟩
              · obtain ⟨g1, g2, g3, g4⟩ := i2 _ _ y s2 h1
                cases h2
                refine ⟨g1.of (ofL_q hof) hx, by show a < y.2; omega, g3, ?_⟩
                show (y.1 ++ [w.1]).length + a ≤ y.2
                rw [List.length_append, List.length_singleton]
                omega
              · cases h2
          | none =>
            rw [hof] at h
            simp only at h
            cases hpt : findW tp (partL q) a with
            | some w =>
              rw [hpt] at h
              simp only at h
              obtain ⟨w1, w2, u, w3, -⟩ := findW_ok hpt (partL_ne q)
              have s1 := skp_ge tp (a + w.2)
              have s2 := skp_le (tp := tp) (a := a + w.2) w2
              cases h
              exact ⟨OneV.one (partL_psh q _ w3), by show a < skp tp (a + w.2); omega, s2, by show 1 + a ≤ skp tp (a + w.2); omega⟩
            | none =>
              rw [hpt] at h
              simp only at h
              cases hnm : numF tp 0 9999 a with
              | ok w =>
                rw [hnm] at h
                simp only at h
                obtain ⟨n1, n2, n3, n4⟩ := numF_ok hnm
                cases h
                refine ⟨OneV.one ?_, n3, n4, by show 1 + a ≤ w.2; omega⟩
                unfold psh
                rw [decide_eq_true (by omega)]
                rfl
              | error e =>
                rw [hnm] at h
                cases h
    · intro o a acc x ha hacc h
      unfold prs at h
      have key : ∀ v, (1 ≤ v ∧ v ≤ 6) → a < tp.length → okThen (prs q tp f 1 o [] (skp tp (a+1))) (fun cs a1 => prs q tp f 3 o (acc ++ cs ++ [v]) a1) = some (.ok x) → GdT q tp acc a x := by
        intro v hv hl h
        have s1 := skp_ge tp (a+1)
        have s2 := skp_le (tp := tp) (a := a+1) (by omega)
        rcases okThen_some h with ⟨y, h1, h2⟩ | ⟨e, h1, h2⟩
        · obtain ⟨g1, g2, g3, g4⟩ := i1 _ _ y s2 h1
          obtain ⟨k1, k2, k3, k4⟩ := i3 _ _ _ x g3 (hacc.op g1 hv) h2
          rw [List.length_append, List.length_append, List.length_singleton] at k4
          exact ⟨k1, by omega, k3, by omega⟩
        · cases h2
      split at h
      · rename_i e; exact key 1 (by omega) (get_lt e) h
      · split at h
        · rename_i e; exact key 2 (by omega) (get_lt e) h
        · cases h
          exact ⟨hacc, Nat.le_refl _, ha, Nat.le_refl _⟩
    · intro o a acc x ha hacc h
      unfold prs at h
      have key : ∀ v, (1 ≤ v ∧ v ≤ 6) → a < tp.length → okThen (prs q tp f 2 o [] (skp tp (a+1))) (fun cs a1 => prs q tp f 4 o (acc ++ cs ++ [v]) a1) = some (.ok x) → GdT q tp acc a x := by
        intro v hv hl h
        have s1 := skp_ge tp (a+1)
        have s2 := skp_le (tp := tp) (a := a+1) (by omega)
        rcases okThen_some h with ⟨y, h1, h2⟩ | ⟨e, h1, h2⟩
        · obtain ⟨g1, g2, g3, g4⟩ := i2 _ _ y s2 h1
          obtain ⟨k1, k2, k3, k4⟩ := i4 _ _ _ x g3 (hacc.op g1 hv) h2
          rw [List.length_append, List.length_append, List.length_singleton] at k4
          exact ⟨k1, by omega, k3, by omega⟩
        · cases h2
      split at h
      · rename_i e; exact key 3 (by omega) (get_lt e) h
      · split at h
        · rename_i e; exact key 4 (by omega) (get_lt e) h
        · cases h
          exact ⟨hacc, Nat.le_refl _, ha, Nat.le_refl _⟩
theorem okThen_tot {r : PRs} {k : List Nat → Nat → PRs} (h : ∃ z, r = some z) (hk : ∀ x, r = some (.ok x) → ∃ z, k x.1 x.2 = some z) : ∃ z, okThen r k = some z := by
  obtain ⟨z, rfl⟩ := h
  cases z with
  | ok x => exact hk x rfl
  | error f => exact ⟨_, rfl⟩
theorem posThen_tot {r : Pos} {k : Nat → PRs} (hk : ∀ a, r = .ok a → ∃ z, k a = some z) : ∃ z, posThen r k = some z := by
  cases r with
  | ok a => exact hk a rfl
  | error f => exact ⟨_, rfl⟩
theorem prs_tot (q : Bool) (tp : List Nat) : ∀ (f : Nat),
    (∀ o a, a ≤ tp.length → 3 * (tp.length - a) + 3 ≤ f → ∃ z, prs q tp f 0 o [] a = some z) ∧
    (∀ o a, a ≤ tp.length → 3 * (tp.length - a) + 2 ≤ f → ∃ z, prs q tp f 1 o [] a = some z) ∧
    (∀ o a, a ≤ tp.length → 3 * (tp.length - a) + 1 ≤ f → ∃ z, prs q tp f 2 o [] a = some z) ∧
    (∀ o a acc, a ≤ tp.length → 3 * (tp.length - a) + 1 ≤ f → ∃ z, prs q tp f 3 o acc a = some z) ∧
    (∀ o a acc, a ≤ tp.length → 3 * (tp.length - a) + 1 ≤ f → ∃ z, prs q tp f 4 o acc a = some z) := by
  intro f
  induction f with
  | zero => refine ⟨?_, ?_, ?_, ?_, ?_⟩ <;> (intros; omega)
  | succ f ih =>
    obtain ⟨i0, i1, i2, i3, i4⟩ := ih
    obtain ⟨g0, g1, g2, -, -⟩ := prs_good q tp f
    refine ⟨?_, ?_, ?_, ?_, ?_⟩
    · intro o a ha hf
      refine okThen_tot (i1 o a ha (by omega)) (fun x hx => ?_)
      obtain ⟨-, k1, k2, -⟩ := g1 o a x ha hx
      exact i3 o _ _ k2 (by omega)
    · intro o a ha hf
      refine okThen_tot (i2 o a ha (by omega)) (fun x hx => ?_)
      obtain ⟨-, k1, k2, -⟩ := g2 o a x ha hx
      exact i4 o _ _ k2 (by omega)
    · intro o a ha hf
      unfold prs
      split
      · rename_i h40
        have hl := get_lt h40
        have s1 := skp_ge tp (a+1)
        have s2 := skp_le (tp := tp) (a := a+1) (by omega)
        split
        · exact ⟨_, rfl⟩
        · exact okThen_tot (i0 _ _ s2 (by omega)) (fun x _ => posThen_tot (fun b _ => ⟨_, rfl⟩))
      · cases hmm : findW tp mmL a with
        | some w =>
          simp only
          obtain ⟨w1, w2, -⟩ := findW_ok hmm mmL_ne
          have s0 := skp_ge tp (a + w.2)
          split
          · rename_i h40
            have hl := get_lt h40
            have s1 := skp_ge tp (skp tp (a + w.2) + 1)
            have s2 := skp_le (tp := tp) (a := skp tp (a + w.2) + 1) (by omega)
            split
            · exact ⟨_, rfl⟩
            · refine okThen_tot (i0 _ _ s2 (by omega)) (fun x hx => posThen_tot (fun b hb => ?_))
              obtain ⟨-, k1, k2, -⟩ := g0 _ _ x s2 hx
              obtain ⟨h5, rfl⟩ := askS_ok hb
              have hl2 := get_lt h5
              have t1 := skp_ge tp (x.2+1)
              have t2 := skp_le (tp := tp) (a := x.2+1) (by omega)
              exact okThen_tot (i0 _ _ t2 (by omega)) (fun y _ => posThen_tot (fun b' _ => ⟨_, rfl⟩))
          · exact ⟨_, rfl⟩
        | none =>
          simp only
          cases hof : findW tp (ofL q) a with
          | some w =>
            simp only
            obtain ⟨w1, w2, -⟩ := findW_ok hof (ofL_ne q)
            have s1 := skp_ge tp (a + w.2)
            have s2 := skp_le (tp := tp) (a := a + w.2) w2
            split
            · exact ⟨_, rfl⟩
            · exact okThen_tot (i2 _ _ s2 (by omega)) (fun x _ => ⟨_, rfl⟩)
          | none =>
            simp only
            cases findW tp (partL q) a with
            | some w => exact ⟨_, rfl⟩
            | none =>
              simp only
              cases numF tp 0 9999 a with
              | ok w => exact ⟨_, rfl⟩
              | error e => exact ⟨_, rfl⟩
    · intro o a acc ha hf
      have key : ∀ v, a < tp.length → ∃ z, okThen (prs q tp f 1 o [] (skp tp (a+1))) (fun cs a1 => prs q tp f 3 o (acc ++ cs ++ [v]) a1) = some z := by
        intro v hl
        have s1 := skp_ge tp (a+1)
        have s2 := skp_le (tp := tp) (a := a+1) (by omega)
        refine okThen_tot (i1 _ _ s2 (by omega)) (fun x hx => ?_)
        obtain ⟨-, k1, k2, -⟩ := g1 _ _ x s2 hx
        exact i3 _ _ _ k2 (by omega)
      unfold prs
      split
      · rename_i e; exact key 1 (get_lt e)
      · split
        · rename_i e; exact key 2 (get_lt e)
        · exact ⟨_, rfl⟩
    · intro o a acc ha hf
      have key : ∀ v, a < tp.length → ∃ z, okThen (prs q tp f 2 o [] (skp tp (a+1))) (fun cs a1 => prs q tp f 4 o (acc ++ cs ++ [v]) a1) = some z := by
        intro v hl
        have s1 := skp_ge tp (a+1)
        have s2 := skp_le (tp := tp) (a := a+1) (by omega)
        refine okThen_tot (i2 _ _ s2 (by omega)) (fun x hx => ?_)
        obtain ⟨-, k1, k2, -⟩ := g2 _ _ x s2 hx
        exact i4 _ _ _ k2 (by omega)
      unfold prs
      split
      · rename_i e; exact key 3 (get_lt e)
      · split
        · rename_i e; exact key 4 (get_lt e)
        · exact ⟨_, rfl⟩
/-- the sum that stands at a place -/
def sumP (q : Bool) (tp : List Nat) (o a : Nat) : PR (List Nat) := (prs q tp (3 * (tp.length - a) + 3) 0 o [] a).getD (.error (9, 0))
theorem sumP_is {q : Bool} {tp : List Nat} {o a : Nat} (ha : a ≤ tp.length) : prs q tp (3 * (tp.length - a) + 3) 0 o [] a = some (sumP q tp o a) := by
  obtain ⟨z, hz⟩ := (prs_tot q tp _).1 o a ha (Nat.le_refl _)
  unfold sumP
  rw [hz]
  rfl
theorem sumP_good {q : Bool} {tp : List Nat} {o a : Nat} {x : List Nat × Nat} (ha : a ≤ tp.length) (h : sumP q tp o a = .ok x) : GdR q tp a x := (prs_good q tp _).1 o a x ha (by rw [sumP_is ha, h])
