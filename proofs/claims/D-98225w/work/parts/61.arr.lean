/-! ARRIVALS: the soonest of all hours that can be reached -/
theorem tk1_spec (T : Twn) (n : Nws) (rs : List Ride) (s b h lp : Nat) (ht : 1 ≤ Ttk T s) (hlp : lp ≤ 900000) :
    (tk1 T n rs s b h lp = NV ∧ ∀ k, h ≤ k → k + Ttk T s < lp → freeF T n rs s b k = false) ∨
    (tk1 T n rs s b h lp ≠ NV ∧ h ≤ tk1 T n rs s b h lp ∧ tk1 T n rs s b h lp + Ttk T s < lp ∧ freeF T n rs s b (tk1 T n rs s b h lp) = true ∧ ∀ k, h ≤ k → k < tk1 T n rs s b h lp → freeF T n rs s b k = false) := by
  rcases taken_spec T n rs s b lp ht hlp (lp - h) h (Nat.le_refl _) with q | ⟨q1, q2, q3, q4⟩
  · exact Or.inl q
  · exact Or.inr ⟨by show takenF T n rs s b lp (lp - h) h ≠ NV; unfold NV; omega, q1, q2, q3, q4⟩
def Edge (T : Twn) (wo s p q : Nat) : Prop := s < Tns T ∧ s ≠ wo ∧ ((Tfr T s = p ∧ Tto T s = q) ∨ (Tto T s = p ∧ Tfr T s = q))
/-- place q can be reached at hour t by k streets (without street wo; each through before lp) -/
def Ach (T : Twn) (n : Nws) (rs : List Ride) (wo b lp src hr : Nat) : Nat → Nat → Nat → Prop
  | 0, q, t => q = src ∧ t = hr
  | k+1, q, t => ∃ s p t' h, Ach T n rs wo b lp src hr k p t' ∧ Edge T wo s p q ∧ t' ≤ h ∧ freeF T n rs s b h = true ∧ h + Ttk T s < lp ∧ t = h + Ttk T s
def IsEA (T : Twn) (n : Nws) (rs : List Ride) (wo b lp src hr : Nat) (A : Nat → Nat) : Prop := ∀ q, q < Tnp T → (A q ≠ NV → ∃ k, Ach T n rs wo b lp src hr k q (A q)) ∧ (∀ k t, Ach T n rs wo b lp src hr k q t → A q ≤ t)
theorem IsEA.uniq {T : Twn} {n : Nws} {rs : List Ride} {wo b lp src hr : Nat} {A B : Nat → Nat} (hA : IsEA T n rs wo b lp src hr A) (hB : IsEA T n rs wo b lp src hr B) (a9 : ∀ q, q < Tnp T → A q ≤ NV) (b9 : ∀ q, q < Tnp T → B q ≤ NV) : ∀ q, q < Tnp T → A q = B q := by
  have half : ∀ (A B : Nat → Nat), IsEA T n rs wo b lp src hr A → IsEA T n rs wo b lp src hr B → (∀ q, q < Tnp T → B q ≤ NV) → ∀ q, q < Tnp T → B q ≤ A q := by
    intro A B hA hB b9 q hq
    by_cases h : A q = NV
    · rw [h]; exact b9 q hq
    · obtain ⟨k, hk⟩ := (hA q hq).1 h
      exact (hB q hq).2 k _ hk
  intro q hq
  exact Nat.le_antisymm (half B A hB hA a9 q hq) (half A B hA hB b9 q hq)
def updN (A : Nat → Nat) (q v : Nat) : Nat → Nat := fun p => if p = q then v else A p
/-- when street s is taken from p so that q is reached sooner; NV -/
def relaxH (T : Twn) (n : Nws) (rs : List Ride) (s b lp : Nat) (A : Nat → Nat) (p q : Nat) : Nat := if A p = NV then NV else tk1 T n rs s b (A p) (min (A q) lp)
def relaxA (T : Twn) (n : Nws) (rs : List Ride) (s b lp : Nat) (A : Nat → Nat) (p q : Nat) : Nat → Nat := if relaxH T n rs s b lp A p q = NV then A else updN A q (relaxH T n rs s b lp A p q + Ttk T s)
def sum9 (A : Nat → Nat) : Nat := A 0 + A 1 + A 2 + A 3 + A 4 + A 5 + A 6 + A 7 + A 8
theorem sum9_upd {A : Nat → Nat} {q v : Nat} (hq : q < 9) (h : v < A q) : sum9 (updN A q v) < sum9 A := by
  have : q = 0 ∨ q = 1 ∨ q = 2 ∨ q = 3 ∨ q = 4 ∨ q = 5 ∨ q = 6 ∨ q = 7 ∨ q = 8 := by omega
  rcases this with rfl | rfl | rfl | rfl | rfl | rfl | rfl | rfl | rfl <;> simp [sum9, updN] <;> omega
theorem relax_some {T : Twn} {n : Nws} {rs : List Ride} {s b lp : Nat} {A : Nat → Nat} {p q : Nat} (ht : 1 ≤ Ttk T s) (hlp : lp ≤ 900000) (h : relaxH T n rs s b lp A p q ≠ NV) : A p ≠ NV ∧ A p ≤ relaxH T n rs s b lp A p q ∧ relaxH T n rs s b lp A p q + Ttk T s < A q ∧ relaxH T n rs s b lp A p q + Ttk T s < lp ∧ freeF T n rs s b (relaxH T n rs s b lp A p q) = true := by
  by_cases hp : A p = NV
  · exfalso; apply h; unfold relaxH; rw [if_pos hp]
  · have e : relaxH T n rs s b lp A p q = tk1 T n rs s b (A p) (min (A q) lp) := by unfold relaxH; rw [if_neg hp]
    rw [e] at h ⊢
    rcases tk1_spec T n rs s b (A p) (min (A q) lp) ht (by omega) with ⟨q1, -⟩ | ⟨-, q1, q2, q3, -⟩
    · exact absurd q1 h
    · exact ⟨hp, q1, by omega, by omega, q3⟩
theorem relax_none {T : Twn} {n : Nws} {rs : List Ride} {s b lp : Nat} {A : Nat → Nat} {p q : Nat} (ht : 1 ≤ Ttk T s) (hlp : lp ≤ 900000) (h : relaxH T n rs s b lp A p q = NV) (hp : A p ≠ NV) {k : Nat} (h1 : A p ≤ k) (h2 : freeF T n rs s b k = true) (h3 : k + Ttk T s < lp) : A q ≤ k + Ttk T s := by
  have e : relaxH T n rs s b lp A p q = tk1 T n rs s b (A p) (min (A q) lp) := by unfold relaxH; rw [if_neg hp]
  rw [e] at h
  rcases tk1_spec T n rs s b (A p) (min (A q) lp) ht (by omega) with ⟨-, q2⟩ | ⟨q0, -⟩
  · rcases Nat.lt_or_ge (k + Ttk T s) (A q) with h4 | h4
    · have := q2 k h1 (by omega)
      rw [h2] at this
      cases this
    · exact h4
  · exact absurd h q0
/-- all hours reached, and none can be bettered: these are the soonest -/
theorem IsEA.of_closed {T : Twn} {n : Nws} {rs : List Ride} {wo b lp src hr : Nat} {A : Nat → Nat} (hT : TOK T) (hlp : lp ≤ 900000) (hsrc : A src ≤ hr) (hr9 : hr < NV) (hach : ∀ q, q < Tnp T → A q ≠ NV → ∃ k, Ach T n rs wo b lp src hr k q (A q))
    (hcl : ∀ s, s < Tns T → s ≠ wo → relaxH T n rs s b lp A (Tfr T s) (Tto T s) = NV ∧ relaxH T n rs s b lp A (Tto T s) (Tfr T s) = NV) : IsEA T n rs wo b lp src hr A := by
  have low : ∀ (k q t : Nat), Ach T n rs wo b lp src hr k q t → t < NV ∧ A q ≤ t := by
    intro k
    induction k with
    | zero =>
      intro q t h
      obtain ⟨rfl, rfl⟩ := h
      exact ⟨hr9, hsrc⟩
    | succ k ih =>
      intro q t h
      obtain ⟨s, p, t', h, h1, ⟨h2, h3, h4⟩, h5, h6, h7, rfl⟩ := h
      obtain ⟨i1, i2⟩ := ih p t' h1
      have ht := (hT.2.1 s h2).2.2.2.1
      have hc := hcl s h2 h3
      have hp : A p ≠ NV := by unfold NV at *; omega
      refine ⟨by unfold NV; omega, ?_⟩
      rcases h4 with ⟨rfl, rfl⟩ | ⟨rfl, rfl⟩
      · exact relax_none ht.1 hlp hc.1 hp (by omega) h6 h7
      · exact relax_none ht.1 hlp hc.2 hp (by omega) h6 h7
  exact fun q hq => ⟨hach q hq, fun k t h => (low k q t h).2⟩
/-- the reference's array of arrivals -/
def MAr (A : Nat → Nat) (σ : AS) : Prop := ∀ p, p < 9 → gI σ 232 p = nI (A p) ∧ (A p = NV ∨ A p ≤ 900000)
theorem MAr.le {A : Nat → Nat} {σ : AS} (h : MAr A σ) {p : Nat} (hp : p < 9) : A p ≤ 1000000 := by
  have := (h p hp).2
  unfold NV at this
  omega
theorem MAr.keep {fs ids : List Nat} {A : Nat → Nat} {σ s : AS} (h : MAr A σ) (hS : mS fs ids σ s) (h1 : ids.contains 232 = false) : MAr A s := fun p hp => by
  rw [hS.ia 232 h1 rfl]
  exact h p hp
theorem lt_pred {a lp : Nat} (ha : a < 1073741824) (hl : lp < 1073741824) : nI a - nI 1 < nI lp - nI 1 ↔ a < lp := by
  have h1 := pk_sub_toInt (a := lp) (b := 1) (by omega) (by omega)
  have h2 := pk_sub_toInt (a := a) (b := 1) (by omega) (by omega)
  rw [Int32.lt_iff_toInt_lt, h1, h2]
  omega
