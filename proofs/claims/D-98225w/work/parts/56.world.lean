/-! THE TOWN AS A VALUE: how many places, streets, walkers; of a street: from, to, takes, round, code; of a walker: breadth, both places; names as numbers -/
abbrev Twn : Type := Nat × Nat × Nat × (Nat → Nat × Nat × Nat × Nat × List Nat) × (Nat → Nat × Nat × Nat) × (Nat → Nat → Nat)
def Tnp (T : Twn) : Nat := T.1
def Tns (T : Twn) : Nat := T.2.1
def Tnw (T : Twn) : Nat := T.2.2.1
def Tfr (T : Twn) (s : Nat) : Nat := (T.2.2.2.1 s).1
def Tto (T : Twn) (s : Nat) : Nat := (T.2.2.2.1 s).2.1
def Ttk (T : Twn) (s : Nat) : Nat := (T.2.2.2.1 s).2.2.1
def Trd (T : Twn) (s : Nat) : Nat := (T.2.2.2.1 s).2.2.2.1
def Tcd (T : Twn) (s : Nat) : List Nat := (T.2.2.2.1 s).2.2.2.2
def Tbr (T : Twn) (w : Nat) : Nat := (T.2.2.2.2.1 w).1
def Twa (T : Twn) (w : Nat) : Nat := (T.2.2.2.2.1 w).2.1
def Twb (T : Twn) (w : Nat) : Nat := (T.2.2.2.2.1 w).2.2
def Tnm (T : Twn) (kind k : Nat) : Nat := T.2.2.2.2.2 kind k
/-- a town that can be told -/
def TOK (T : Twn) : Prop := (Tnp T ≤ 9 ∧ Tns T ≤ 12 ∧ Tnw T ≤ 6) ∧
  (∀ s, s < Tns T → Tfr T s < Tnp T ∧ Tto T s < Tnp T ∧ Tfr T s ≠ Tto T s ∧ (1 ≤ Ttk T s ∧ Ttk T s ≤ 4) ∧ (1 ≤ Trd T s ∧ Trd T s ≤ 48) ∧ wfR (Tcd T s) 0) ∧
  (∀ w, w < Tnw T → (1 ≤ Tbr T w ∧ Tbr T w ≤ 99) ∧ Twa T w < Tnp T ∧ Twb T w < Tnp T ∧ Twa T w ≠ Twb T w)
/-- what acts alter: hour; shifts; of walkers where, where to, when free -/
abbrev Nws : Type := Nat × (Nat → Nat) × (Nat → Nat × Nat × Nat)
def Nhr (n : Nws) : Nat := n.1
def Nsh (n : Nws) (s : Nat) : Nat := n.2.1 s
def Nat_ (n : Nws) (w : Nat) : Nat := (n.2.2 w).1
def Nto (n : Nws) (w : Nat) : Nat := (n.2.2 w).2.1
def Nfr (n : Nws) (w : Nat) : Nat := (n.2.2 w).2.2
def NOK (T : Twn) (n : Nws) : Prop := Nhr n ≤ 9999 ∧ (∀ s, s < Tns T → Nsh n s < Trd T s) ∧ (∀ w, w < Tnw T → ((Nat_ n w = Twa T w ∧ Nto n w = Twb T w) ∨ (Nat_ n w = Twb T w ∧ Nto n w = Twa T w)) ∧ Nfr n w ≤ 9999)
/-- the reference's arrays hold the town -/
def MTn (T : Twn) (σ : AS) : Prop := gI σ 220 3 = nI (Tnp T) ∧ gI σ 220 4 = nI (Tns T) ∧ gI σ 220 5 = nI (Tnw T) ∧
  (∀ s, s < Tns T → gI σ 222 (60 + 5 * s) = nI (Tfr T s) ∧ gI σ 222 (60 + 5 * s + 1) = nI (Tto T s) ∧ gI σ 222 (60 + 5 * s + 2) = nI (Ttk T s) ∧ gI σ 222 (60 + 5 * s + 3) = nI (Trd T s)) ∧
  (∀ w, w < Tnw T → gI σ 223 (18 + 3 * w) = nI (Tbr T w) ∧ gI σ 223 (18 + 3 * w + 1) = nI (Twa T w) ∧ gI σ 223 (18 + 3 * w + 2) = nI (Twb T w)) ∧
  (∀ s, s < Tns T → ∃ f, gI σ 226 (12 + s) = nI f ∧ gI σ 227 (12 + s) = nI (f + (Tcd T s).length) ∧ f + (Tcd T s).length ≤ 1600 ∧ ∀ j c, (Tcd T s)[j]? = some c → gI σ 224 (1600 + f + j) = nI c) ∧
  (∀ k, k < Tnp T → gL σ 221 (36 + k) = lN (Tnm T 0 k)) ∧ (∀ k, k < Tns T → gL σ 221 (48 + k) = lN (Tnm T 1 k)) ∧ (∀ k, k < Tnw T → gL σ 221 (60 + k) = lN (Tnm T 2 k))
def MNw (T : Twn) (n : Nws) (σ : AS) : Prop := gI σ 230 0 = nI (Nhr n) ∧ (∀ s, s < Tns T → gI σ 230 (1 + s) = nI (Nsh n s)) ∧
  (∀ w, w < Tnw T → gI σ 230 (13 + 3 * w) = nI (Nat_ n w) ∧ gI σ 230 (13 + 3 * w + 1) = nI (Nto n w) ∧ gI σ 230 (13 + 3 * w + 2) = nI (Nfr n w))
def TN (T : Twn) (n : Nws) (σ : AS) : Prop := TOK T ∧ NOK T n ∧ MTn T σ ∧ MNw T n σ
theorem MTn.keep {fs ids : List Nat} {T : Twn} {σ s : AS} (hS : mS fs ids σ s) (h9 : ([220, 221, 222, 223, 224, 226, 227].all (fun a => !ids.contains a)) = true) (h : MTn T σ) : MTn T s := by
  have hk : ∀ a, a ∈ [220, 221, 222, 223, 224, 226, 227] → ids.contains a = false := fun a ha => by
    have := List.all_eq_true.mp h9 a ha
    simpa using this
  have e0 : ∀ k, gI s 220 k = gI σ 220 k := hS.ia 220 (hk _ (by simp)) rfl
  have e1 : ∀ k, gL s 221 k = gL σ 221 k := hS.la 221 (hk _ (by simp)) rfl
  have e2 : ∀ k, gI s 222 k = gI σ 222 k := hS.ia 222 (hk _ (by simp)) rfl
  have e3 : ∀ k, gI s 223 k = gI σ 223 k := hS.ia 223 (hk _ (by simp)) rfl
  have e4 : ∀ k, gI s 224 k = gI σ 224 k := hS.ia 224 (hk _ (by simp)) rfl
  have e5 : ∀ k, gI s 226 k = gI σ 226 k := hS.ia 226 (hk _ (by simp)) rfl
  have e6 : ∀ k, gI s 227 k = gI σ 227 k := hS.ia 227 (hk _ (by simp)) rfl
  unfold MTn at h ⊢
  simp only [e0, e1, e2, e3, e4, e5, e6]
  exact h
theorem MNw.keep {fs ids : List Nat} {T : Twn} {n : Nws} {σ s : AS} (hS : mS fs ids σ s) (h9 : ids.contains 230 = false) (h : MNw T n σ) : MNw T n s := by
  have e0 : ∀ k, gI s 230 k = gI σ 230 k := hS.ia 230 h9 rfl
  unfold MNw at h ⊢
  simp only [e0]
  exact h
theorem TN.keep {fs ids : List Nat} {T : Twn} {n : Nws} {σ s : AS} (h : TN T n σ) (hS : mS fs ids σ s) (h9 : ([220, 221, 222, 223, 224, 226, 227].all (fun a => !ids.contains a)) = true) (h8 : ids.contains 230 = false) : TN T n s := ⟨h.1, h.2.1, h.2.2.1.keep hS h9, h.2.2.2.keep hS h8⟩
/-- what a sum is asked of -/
def envW (T : Twn) (s sh h : Nat) (i : Nat) : Nat := match i with
  | 0 => (h + sh) % Trd T s
  | 1 => Trd T s
  | 2 => h % 24
  | _ => h / 24
def clamp99 (v : Int) : Nat := if v < 0 then 0 else if v > 99 then 99 else v.toNat
/-- how wide street s is in hour h with shift sh -/
def wid (T : Twn) (s sh h : Nat) : Nat := clamp99 ((evalR (envW T s sh h) (Tcd T s) []).headD 0)
theorem clamp99_le (v : Int) : clamp99 v ≤ 99 := by
  unfold clamp99
  split
  · omega
  · split <;> omega
theorem wid_le (T : Twn) (s sh h : Nat) : wid T s sh h ≤ 99 := clamp99_le _
/-- an int in the range of a number -/
def inR (p : Int32) (n : Nat) : Bool := decide (0 ≤ p.toInt ∧ p.toInt < (n : Int))
theorem inR_of {p : Int32} {n : Nat} (h : inR p n = true) (hn : n < 2147483648) : ∃ k, k < n ∧ p = nI k := by
  simp only [inR, decide_eq_true_eq] at h
  refine ⟨p.toInt.toNat, by omega, ?_⟩
  apply Int32.toInt_inj.mp
  rw [nI_toInt (by omega)]
  omega
theorem inR_nI {k n : Nat} (hk : k < 2147483648) : inR (nI k) n = decide (k < n) := by
  simp only [inR, nI_toInt hk]
  by_cases h : k < n
  · rw [decide_eq_true (by omega), decide_eq_true h]
  · rw [decide_eq_false (by omega), decide_eq_false h]
theorem inR_long {p : Int32} {n : Nat} (hn : n < 1000000) {v : Int32} (hv : v = nI n) : decide (lN 0 ≤ p.toInt64 ∧ p.toInt64 ≤ (v - nI 1).toInt64) = inR p n := by
  subst hv
  have e : (nI n - nI 1).toInt = (n : Int) - 1 := by
    have := pk_sub_toInt (a := n) (b := 1) (by omega) (by omega)
    simpa using this
  have e2 : (lN 0).toInt = 0 := rfl
  unfold inR
  apply decide_eq_decide.mpr
  rw [Int64.le_iff_toInt_le, Int64.le_iff_toInt_le, Int32.toInt_toInt64, Int32.toInt_toInt64, e, e2]
  omega
