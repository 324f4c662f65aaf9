/-! A TOWN AS TOLD, plain: statements in their row; a fault is (kind, place) -/
abbrev StR : Type := Nat × Nat × Nat × Nat × Nat × List Nat
abbrev WkR : Type := Nat × Nat × Nat
/-- statements, begin, names, streets (from, to, takes, round, shift, codes), walkers (breadth, both places) -/
abbrev RS : Type := Nat × Nat × Nms × List StR × List WkR
def rP {α : Type} (S : Pos) (k : Nat → PR α) : PR α := match S with
  | .ok a => k a
  | .error f => .error f
def vlO (r : PR Nat) : Nat := match r with
  | .ok x => x.1
  | .error _ => 0
theorem posOf_rP {α : Type} (S : Pos) (k : Nat → PR α) : posOf (rP S k) = bnd S (fun a => posOf (k a)) := by cases S <;> rfl
theorem rP_ok {α : Type} {S : Pos} {k : Nat → PR α} {x : α × Nat} (h : rP S k = .ok x) : ∃ a, S = .ok a ∧ k a = .ok x := by
  cases S with
  | ok a => exact ⟨a, rfl, h⟩
  | error f => cases h
theorem bnd_ok {S : Pos} {k : Nat → Pos} {b : Nat} (h : bnd S k = .ok b) : ∃ a, S = .ok a ∧ k a = .ok b := by
  cases S with
  | ok a => exact ⟨a, rfl, h⟩
  | error f => cases h
theorem posOf_ok {α : Type} {r : PR α} {b : Nat} (h : posOf r = .ok b) : ∃ x, r = .ok (x, b) := by
  cases r with
  | ok x => cases h; exact ⟨x.1, rfl⟩
  | error f => cases h
theorem askW_ok {tp w : List Nat} {a b : Nat} (h : askW tp w a = .ok b) : kw tp w a = true ∧ b = skp tp (a + w.length) := by
  unfold askW at h
  split at h
  · rename_i hk; cases h; exact ⟨hk, rfl⟩
  · cases h
section TW_
variable (tp : List Nat) (N : Nms) (a : Nat)
def st_1 : PR Nat := newF tp N a
def st_2 : Pos := bnd (posOf (st_1 tp N a)) (askW tp wFrom)
def st_3 : PR Nat := rP (st_2 tp N a) (plcF tp N none)
def st_4 : Pos := bnd (posOf (st_3 tp N a)) (askW tp wTo)
def st_5 : PR Nat := rP (st_4 tp N a) (plcF tp N (some (vlO (st_3 tp N a))))
def st_6 : Pos := bnd (posOf (st_5 tp N a)) (askW tp wTakes)
def st_7 : PR Nat := rP (st_6 tp N a) (numF tp 1 4)
def st_8 : Pos := bnd (posOf (st_7 tp N a)) (askW tp wRound)
def st_9 : PR Nat := rP (st_8 tp N a) (numF tp 1 48)
def st_10 : Pos := bnd (posOf (st_9 tp N a)) (askW tp wShift)
def st_11 : PR Nat := rP (st_10 tp N a) (numF tp 0 47)
def st_12 : Pos := bnd (posOf (st_11 tp N a)) (askW tp wWide)
def st_13 : PR (List Nat) := rP (st_12 tp N a) (sumP false tp 0)
def stR (cs : List Nat) : StR := (vlO (st_3 tp N a), vlO (st_5 tp N a), vlO (st_7 tp N a), vlO (st_9 tp N a), vlO (st_11 tp N a) % vlO (st_9 tp N a), cs)
def stP (p : Nat) : PR (Nat × StR) := if N.2.1.length = 12 then .error (5, p) else match st_13 tp N a with
  | .ok x => .ok ((vlO (st_1 tp N a), stR tp N a x.1), x.2)
  | .error f => .error f
def wk_1 : PR Nat := newF tp N a
def wk_2 : Pos := bnd (posOf (wk_1 tp N a)) (askW tp wBroad)
def wk_3 : PR Nat := rP (wk_2 tp N a) (numF tp 1 99)
def wk_4 : Pos := bnd (posOf (wk_3 tp N a)) (askW tp wAt)
def wk_5 : PR Nat := rP (wk_4 tp N a) (plcF tp N none)
def wk_6 : Pos := bnd (posOf (wk_5 tp N a)) (askW tp wTo)
def wk_7 : PR Nat := rP (wk_6 tp N a) (plcF tp N (some (vlO (wk_5 tp N a))))
def wkP (p : Nat) : PR (Nat × WkR) := if N.2.2.length = 6 then .error (5, p) else match wk_7 tp N a with
  | .ok x => .ok ((vlO (wk_1 tp N a), vlO (wk_3 tp N a), vlO (wk_5 tp N a), x.1), x.2)
  | .error f => .error f
def plP (p : Nat) : PR Nat := if N.1.length = 9 then .error (5, p) else newF tp N a
end TW_
def bgP (tp : List Nat) (a : Nat) : PR Nat := rP (askW tp wBegin a) (numF tp 0 999)
def addP (rs : RS) (v : Nat) : RS := (rs.1, rs.2.1, (rs.2.2.1.1 ++ [v], rs.2.2.1.2), rs.2.2.2)
def addS (rs : RS) (z : Nat × StR) : RS := (rs.1, rs.2.1, (rs.2.2.1.1, rs.2.2.1.2.1 ++ [z.1], rs.2.2.1.2.2), rs.2.2.2.1 ++ [z.2], rs.2.2.2.2)
def addW (rs : RS) (z : Nat × WkR) : RS := (rs.1, rs.2.1, (rs.2.2.1.1, rs.2.2.1.2.1, rs.2.2.1.2.2 ++ [z.1]), rs.2.2.2.1, rs.2.2.2.2 ++ [z.2])
def addB (rs : RS) (v : Nat) : RS := (rs.1, v, rs.2.2)
def mapR {α β : Type} (f : α → β) (r : PR α) : PR β := match r with
  | .ok x => .ok (f x.1, x.2)
  | .error e => .error e
theorem posOf_mapR {α β : Type} (f : α → β) (r : PR α) : posOf (mapR f r) = posOf r := by cases r <;> rfl
/-- one statement, up to its semicolon -/
def oneP (tp : List Nat) (rs : RS) (a : Nat) : PR RS :=
  if kw tp wPlace a = true then mapR (addP rs) (plP tp rs.2.2.1 (skp tp (a + 5)) a)
  else if kw tp wStreet a = true then mapR (addS rs) (stP tp rs.2.2.1 (skp tp (a + 6)) a)
  else if kw tp wWalker a = true then mapR (addW rs) (wkP tp rs.2.2.1 (skp tp (a + 6)) a)
  else mapR (addB rs) (bgP tp a)
def cntS (rs : RS) : RS := (rs.1 + 1, rs.2)
def stmtP (tp : List Nat) (rs : RS) (a : Nat) : PR RS := if rs.1 = 70 then .error (5, a) else match oneP tp rs a with
  | .ok x => (match askS tp 59 x.2 with
    | .ok b => .ok (cntS x.1, b)
    | .error f => .error f)
  | .error f => .error f
def townL (tp : List Nat) : Nat → RS → Nat → Except Flt RS
  | 0, _, _ => .error (9, 0)
  | f+1, rs, a => if tp.length ≤ a then .ok rs else match stmtP tp rs a with
    | .ok x => townL tp f x.1 x.2
    | .error e => .error e
def rs0 : RS := (0, 0, ([], [], []), [], [])
def townP (tp : List Nat) : Except Flt RS := townL tp (tp.length + 1) rs0 (skp tp 0)
/-! what is told can be: places go on -/
theorem newF_ok {tp : List Nat} {N : Nms} {a : Nat} {x : Nat × Nat} (h : newF tp N a = .ok x) : namF tp a = .ok x ∧ anyN N x.1 3 = false := by
  unfold newF newK at h
  split at h
  · cases h
  · rename_i z hz
    split at h
    · cases h
    · rename_i hn
      cases h
      exact ⟨hz, by simpa using hn⟩
theorem plcF_ok {tp : List Nat} {N : Nms} {but : Option Nat} {a : Nat} {x : Nat × Nat} (h : plcF tp N but a = .ok x) : x.1 < N.1.length ∧ ¬ but = some x.1 ∧ a < x.2 ∧ x.2 ≤ tp.length := by
  unfold plcF at h
  split at h
  · cases h
  · rename_i z hz
    split at h
    · cases h
    · rename_i k hk
      split at h
      · cases h
      · rename_i hb
        cases h
        have := nmOf_lt hk
        have h2 := namF_ok hz
        exact ⟨this, hb, h2.1, h2.2.1⟩
theorem askW_lt {tp w : List Nat} {a b : Nat} (h : askW tp w a = .ok b) : a ≤ b ∧ b ≤ tp.length := by
  obtain ⟨h1, h2⟩ := askW_ok h
  have h3 := kwL h1
  have h4 := skp_ge tp (a + w.length)
  have h5 := skp_le (tp := tp) h3
  omega
/-- what a street that is told is like -/
def StOK (np : Nat) (z : StR) : Prop := z.1 < np ∧ z.2.1 < np ∧ z.1 ≠ z.2.1 ∧ (1 ≤ z.2.2.1 ∧ z.2.2.1 ≤ 4) ∧ (1 ≤ z.2.2.2.1 ∧ z.2.2.2.1 ≤ 48) ∧ z.2.2.2.2.1 < z.2.2.2.1 ∧ OneV false z.2.2.2.2.2
def WkOK (np : Nat) (z : WkR) : Prop := (1 ≤ z.1 ∧ z.1 ≤ 99) ∧ z.2.1 < np ∧ z.2.2 < np ∧ z.2.1 ≠ z.2.2
theorem stP_ok {tp : List Nat} {N : Nms} {a p : Nat} {x : (Nat × StR) × Nat} (ha : a ≤ tp.length) (h : stP tp N a p = .ok x) : N.2.1.length ≠ 12 ∧ StOK N.1.length x.1.2 ∧ (a < x.2 ∧ x.2 ≤ tp.length) ∧ (x.1.1 < 387420489 ∧ 1 ≤ x.1.1) ∧ anyN N x.1.1 3 = false ∧ x.1.2.2.2.2.2.2.length + a ≤ x.2 := by
  unfold stP at h
  split at h
  · cases h
  rename_i hne
  cases h13 : st_13 tp N a with
  | error f => rw [h13] at h; cases h
  | ok y =>
    rw [h13] at h
    cases h
    obtain ⟨a12, h12, k13⟩ := rP_ok h13
    obtain ⟨b12, h11, k12⟩ := bnd_ok h12
    obtain ⟨v11, h11⟩ := posOf_ok h11
    obtain ⟨a10, h10, k11⟩ := rP_ok h11
    obtain ⟨b10, h9, k10⟩ := bnd_ok h10
    obtain ⟨v9, h9⟩ := posOf_ok h9
    obtain ⟨a8, h8, k9⟩ := rP_ok h9
    obtain ⟨b8, h7, k8⟩ := bnd_ok h8
    obtain ⟨v7, h7⟩ := posOf_ok h7
    obtain ⟨a6, h6, k7⟩ := rP_ok h7
    obtain ⟨b6, h5, k6⟩ := bnd_ok h6
    obtain ⟨v5, h5⟩ := posOf_ok h5
    obtain ⟨a4, h4, k5⟩ := rP_ok h5
    obtain ⟨b4, h3, k4⟩ := bnd_ok h4
    obtain ⟨v3, h3⟩ := posOf_ok h3
    obtain ⟨a2, h2, k3⟩ := rP_ok h3
    obtain ⟨b2, h1, k2⟩ := bnd_ok h2
    obtain ⟨v1, h1⟩ := posOf_ok h1
    have e1 : vlO (st_1 tp N a) = v1 := by rw [h1]; rfl
    have e3 : vlO (st_3 tp N a) = v3 := by rw [h3]; rfl
    have e5 : vlO (st_5 tp N a) = v5 := by rw [h5]; rfl
    have e7 : vlO (st_7 tp N a) = v7 := by rw [h7]; rfl
    have e9 : vlO (st_9 tp N a) = v9 := by rw [h9]; rfl
    have e11 : vlO (st_11 tp N a) = v11 := by rw [h11]; rfl
    obtain ⟨n1, n2⟩ := newF_ok h1
    have n3 := namF_ok n1
    have g2 := askW_lt k2
    have g3 := plcF_ok k3
    have g4 := askW_lt k4
    have g5 := plcF_ok k5
    rw [e3] at g5
    have g6 := askW_lt k6
    have g7 := numF_ok k7
    have g8 := askW_lt k8
    have g9 := numF_ok k9
    have g10 := askW_lt k10
    have g11 := numF_ok k11
    have g12 := askW_lt k12
    obtain ⟨q1, q2, q3, q4⟩ := sumP_good g12.2 k13
    simp only [] at g3 g5 g7 g9 g11 n3
    refine ⟨hne, ?_, ⟨by show a < y.2; omega, q3⟩, by show vlO (st_1 tp N a) < _ ∧ _ ≤ vlO (st_1 tp N a); rw [e1]; exact n3.2.2, by show anyN N (vlO (st_1 tp N a)) 3 = false; rw [e1]; exact n2, by show y.1.length + a ≤ y.2; omega⟩
    show StOK N.1.length (stR tp N a y.1)
    unfold stR
    rw [e3, e5, e7, e9, e11]
    exact ⟨g3.1, g5.1, fun e => g5.2.1 (congrArg some e), ⟨g7.1, g7.2.1⟩, ⟨g9.1, g9.2.1⟩, Nat.mod_lt _ (by show 0 < v9; omega), q1⟩
theorem wkP_ok {tp : List Nat} {N : Nms} {a p : Nat} {x : (Nat × WkR) × Nat} (h : wkP tp N a p = .ok x) : N.2.2.length ≠ 6 ∧ WkOK N.1.length x.1.2 ∧ (a < x.2 ∧ x.2 ≤ tp.length) ∧ (x.1.1 < 387420489 ∧ 1 ≤ x.1.1) ∧ anyN N x.1.1 3 = false := by
  unfold wkP at h
  split at h
  · cases h
  rename_i hne
  cases h7 : wk_7 tp N a with
  | error f => rw [h7] at h; cases h
  | ok y =>
    rw [h7] at h
    cases h
    obtain ⟨a6, h6, k7⟩ := rP_ok h7
    obtain ⟨b6, h5, k6⟩ := bnd_ok h6
    obtain ⟨v5, h5⟩ := posOf_ok h5
    obtain ⟨a4, h4, k5⟩ := rP_ok h5
    obtain ⟨b4, h3, k4⟩ := bnd_ok h4
    obtain ⟨v3, h3⟩ := posOf_ok h3
    obtain ⟨a2, h2, k3⟩ := rP_ok h3
    obtain ⟨b2, h1, k2⟩ := bnd_ok h2
    obtain ⟨v1, h1⟩ := posOf_ok h1
    have e1 : vlO (wk_1 tp N a) = v1 := by rw [h1]; rfl
    have e3 : vlO (wk_3 tp N a) = v3 := by rw [h3]; rfl
    have e5 : vlO (wk_5 tp N a) = v5 := by rw [h5]; rfl
    obtain ⟨n1, n2⟩ := newF_ok h1
    have n3 := namF_ok n1
    have g2 := askW_lt k2
    have g3 := numF_ok k3
    have g4 := askW_lt k4
    have g5 := plcF_ok k5
    have g6 := askW_lt k6
    have g7 := plcF_ok k7
    rw [e5] at g7
    simp only [] at g3 g5 n3
    refine ⟨hne, ?_, ⟨by show a < y.2; omega, g7.2.2.2⟩, by show vlO (wk_1 tp N a) < _ ∧ _ ≤ vlO (wk_1 tp N a); rw [e1]; exact n3.2.2, by show anyN N (vlO (wk_1 tp N a)) 3 = false; rw [e1]; exact n2⟩
    show WkOK N.1.length (vlO (wk_3 tp N a), vlO (wk_5 tp N a), y.1)
    rw [e3, e5]
    exact ⟨⟨g3.1, g3.2.1⟩, g5.1, g7.1, fun e => g7.2.1 (by rw [show v5 = y.1 from e])⟩
theorem bgP_ok {tp : List Nat} {a : Nat} {x : Nat × Nat} (h : bgP tp a = .ok x) : x.1 ≤ 999 ∧ a < x.2 ∧ x.2 ≤ tp.length := by
  obtain ⟨b, h1, h2⟩ := rP_ok h
  have g1 := askW_lt h1
  have g2 := numF_ok h2
  exact ⟨g2.2.1, by omega, g2.2.2.2⟩
/-- what has been told so far can be -/
def RSOK (rs : RS) : Prop := rs.1 ≤ 70 ∧ rs.2.1 ≤ 999 ∧ (rs.2.2.1.1.length ≤ 9 ∧ rs.2.2.1.2.1.length ≤ 12 ∧ rs.2.2.1.2.2.length ≤ 6) ∧ rs.2.2.2.1.length = rs.2.2.1.2.1.length ∧ rs.2.2.2.2.length = rs.2.2.1.2.2.length ∧ (∀ z ∈ rs.2.2.2.1, StOK rs.2.2.1.1.length z) ∧ (∀ z ∈ rs.2.2.2.2, WkOK rs.2.2.1.1.length z) ∧ (∀ k v, v ∈ nmK rs.2.2.1 k → v < 387420489 ∧ 1 ≤ v)
theorem RSOK.n {rs : RS} (h : RSOK rs) : (∀ v, v ∈ rs.2.2.1.1 → v < 387420489 ∧ 1 ≤ v) ∧ (∀ v, v ∈ rs.2.2.1.2.1 → v < 387420489 ∧ 1 ≤ v) ∧ (∀ v, v ∈ rs.2.2.1.2.2 → v < 387420489 ∧ 1 ≤ v) := by
  have h8 := h.2.2.2.2.2.2.2
  exact ⟨fun v hv => h8 0 v hv, fun v hv => h8 1 v hv, fun v hv => h8 2 v hv⟩
theorem nmOK {N : Nms} (h1 : ∀ v, v ∈ N.1 → v < 387420489 ∧ 1 ≤ v) (h2 : ∀ v, v ∈ N.2.1 → v < 387420489 ∧ 1 ≤ v) (h3 : ∀ v, v ∈ N.2.2 → v < 387420489 ∧ 1 ≤ v) : ∀ k v, v ∈ nmK N k → v < 387420489 ∧ 1 ≤ v := by
  intro k v hv
  unfold nmK at hv
  split at hv
  · exact h1 v hv
  · split at hv
    · exact h2 v hv
    · exact h3 v hv
theorem StOK.mono {m n : Nat} {z : StR} (h : StOK m z) (hm : m ≤ n) : StOK n z := ⟨by have := h.1; omega, by have := h.2.1; omega, h.2.2⟩
theorem WkOK.mono {m n : Nat} {z : WkR} (h : WkOK m z) (hm : m ≤ n) : WkOK n z := ⟨h.1, by have := h.2.1; omega, by have := h.2.2.1; omega, h.2.2.2⟩
theorem mem_snoc {α : Type} {l : List α} {v : α} {P : α → Prop} (h1 : ∀ x ∈ l, P x) (h2 : P v) : ∀ x ∈ l ++ [v], P x := by
  intro x hx
  rcases List.mem_append.mp hx with h | h
  · exact h1 x h
  · simp at h; rw [h]; exact h2
theorem oneP_ok {tp : List Nat} {rs : RS} {a : Nat} {x : RS × Nat} (hr : RSOK rs) (ha : a ≤ tp.length) (h : oneP tp rs a = .ok x) : RSOK x.1 ∧ a < x.2 ∧ x.2 ≤ tp.length ∧ x.1.1 = rs.1 := by
  have hn := hr.n
  obtain ⟨r1, r2, ⟨r3, r4, r5⟩, r6, r7, r8, r9, r10⟩ := hr
  unfold oneP at h
  split at h
  · rename_i hk
    have hl := kwL hk
    have hs := skp_ge tp (a + 5)
    cases hp : plP tp rs.2.2.1 (skp tp (a + 5)) a with
    | error f => rw [hp] at h; cases h
    | ok y =>
      rw [hp] at h
      cases h
      unfold plP at hp
      split at hp
      · cases hp
      · rename_i hne
        obtain ⟨n1, n2⟩ := newF_ok hp
        have n3 := namF_ok n1
        have hlen : (rs.2.2.1.1 ++ [y.1]).length = rs.2.2.1.1.length + 1 := by simp
        refine ⟨⟨r1, r2, ⟨by show (rs.2.2.1.1 ++ [y.1]).length ≤ 9; omega, r4, r5⟩, r6, r7, fun z hz => (r8 z hz).mono (by show _ ≤ (rs.2.2.1.1 ++ [y.1]).length; omega), fun z hz => (r9 z hz).mono (by show _ ≤ (rs.2.2.1.1 ++ [y.1]).length; omega), nmOK (mem_snoc hn.1 n3.2.2) hn.2.1 hn.2.2⟩, by show a < y.2; omega, n3.2.1, rfl⟩
  · split at h
    · rename_i hk
      have hl := kwL hk
      have hl : a + 6 ≤ tp.length := hl
      have hs := skp_ge tp (a + 6)
      cases hp : stP tp rs.2.2.1 (skp tp (a + 6)) a with
      | error f => rw [hp] at h; cases h
      | ok y =>
        rw [hp] at h
        cases h
        obtain ⟨k1, k2, k3, k4, k5, k6⟩ := stP_ok (skp_le hl) hp
        refine ⟨⟨r1, r2, ⟨r3, by show (rs.2.2.1.2.1 ++ [y.1.1]).length ≤ 12; simp; omega, r5⟩, by show (rs.2.2.2.1 ++ [y.1.2]).length = (rs.2.2.1.2.1 ++ [y.1.1]).length; simp [r6], r7, mem_snoc r8 k2, r9, nmOK hn.1 (mem_snoc hn.2.1 k4) hn.2.2⟩, by show a < y.2; omega, k3.2, rfl⟩
    · split at h
      · rename_i hk
        have hl := kwL hk
        have hl : a + 6 ≤ tp.length := hl
        have hs := skp_ge tp (a + 6)
        cases hp : wkP tp rs.2.2.1 (skp tp (a + 6)) a with
        | error f => rw [hp] at h; cases h
        | ok y =>
          rw [hp] at h
          cases h
          obtain ⟨k1, k2, k3, k4, k5⟩ := wkP_ok hp
          refine ⟨⟨r1, r2, ⟨r3, r4, by show (rs.2.2.1.2.2 ++ [y.1.1]).length ≤ 6; simp; omega⟩, r6, by show (rs.2.2.2.2 ++ [y.1.2]).length = (rs.2.2.1.2.2 ++ [y.1.1]).length; simp [r7], r8, mem_snoc r9 k2, nmOK hn.1 hn.2.1 (mem_snoc hn.2.2 k4)⟩, by show a < y.2; omega, k3.2, rfl⟩
      · cases hp : bgP tp a with
        | error f => rw [hp] at h; cases h
        | ok y =>
          rw [hp] at h
          cases h
          have k := bgP_ok hp
          exact ⟨⟨r1, k.1, ⟨r3, r4, r5⟩, r6, r7, r8, r9, r10⟩, k.2.1, k.2.2, rfl⟩
theorem stmtP_ok {tp : List Nat} {rs : RS} {a : Nat} {x : RS × Nat} (hr : RSOK rs) (ha : a ≤ tp.length) (h : stmtP tp rs a = .ok x) : RSOK x.1 ∧ a < x.2 ∧ x.2 ≤ tp.length := by
  unfold stmtP at h
  split at h
  · cases h
  · rename_i h70
    cases ho : oneP tp rs a with
    | error f => rw [ho] at h; cases h
    | ok y =>
      rw [ho] at h
      obtain ⟨k1, k2, k3, k4⟩ := oneP_ok hr ha ho
      cases hs : askS tp 59 y.2 with
      | error f => simp only [hs] at h; cases h
      | ok b =>
        simp only [hs] at h
        cases h
        obtain ⟨g1, g2⟩ := askS_ok hs
        have g3 := get_lt g1
        have g4 := skp_ge tp (y.2 + 1)
        have g5 := skp_le (tp := tp) (a := y.2 + 1) (by omega)
        have := hr.1
        exact ⟨⟨by show y.1.1 + 1 ≤ 70; omega, k1.2⟩, by show a < b; omega, by show b ≤ _; omega⟩
theorem townL_ok {tp : List Nat} : ∀ (f : Nat) (rs : RS) (a : Nat) (z : RS), RSOK rs → a ≤ tp.length → townL tp f rs a = .ok z → RSOK z
  | 0, _, _, _, _, _, h => by cases h
  | f+1, rs, a, z, hr, ha, h => by
    unfold townL at h
    split at h
    · cases h; exact hr
    · cases hs : stmtP tp rs a with
      | error e => rw [hs] at h; cases h
      | ok x =>
        rw [hs] at h
        obtain ⟨k1, k2, k3⟩ := stmtP_ok hr ha hs
        exact townL_ok f x.1 x.2 z k1 k3 h
theorem rs0_ok : RSOK rs0 := ⟨by decide, by decide, ⟨by decide, by decide, by decide⟩, rfl, rfl, fun z hz => by simp [rs0] at hz, fun z hz => by simp [rs0] at hz, fun k v hv => by unfold nmK rs0 at hv; split at hv; (simp at hv); split at hv <;> simp at hv⟩
theorem townP_ok {tp : List Nat} {z : RS} (h : townP tp = .ok z) : RSOK z := townL_ok _ rs0 _ z rs0_ok (skp_le (Nat.zero_le _)) h
