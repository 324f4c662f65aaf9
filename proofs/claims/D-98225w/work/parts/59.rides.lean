/-! who is in a street; when it is free; when it can be taken -/
abbrev Ride : Type := Nat × Nat × Nat
def rideIn (T : Twn) (s h : Nat) (r : Ride) : Nat := if r.1 = s ∧ r.2.1 ≤ h ∧ h < r.2.1 + Ttk T s then r.2.2 else 0
def crowd (T : Twn) (rs : List Ride) (s h : Nat) : Nat := (rs.map (rideIn T s h)).sum
def freeF (T : Twn) (n : Nws) (rs : List Ride) (s b h : Nat) : Bool := (List.range (Ttk T s)).all (fun i => decide (b + crowd T rs s (h + i) ≤ wid T s (Nsh n s) (h + i)))
def NV : Nat := 1000000
def takenF (T : Twn) (n : Nws) (rs : List Ride) (s b lp : Nat) : Nat → Nat → Nat
  | 0, _ => NV
  | m+1, h => if h + Ttk T s < lp then (if freeF T n rs s b h = true then h else takenF T n rs s b lp m (h+1)) else NV
/-- the first hour from h on in which s is free and one is through before lp; NV -/
def tk1 (T : Twn) (n : Nws) (rs : List Ride) (s b h lp : Nat) : Nat := takenF T n rs s b lp (lp - h) h
def MRd (rs : List Ride) (σ : AS) : Prop := gI σ 200 47 = nI rs.length ∧ rs.length ≤ 60 ∧ ∀ k r, rs[k]? = some r → (gI σ 231 (3 * k) = nI r.1 ∧ gI σ 231 (3 * k + 1) = nI r.2.1 ∧ gI σ 231 (3 * k + 2) = nI r.2.2) ∧ r.1 < 12 ∧ r.2.1 ≤ 100000 ∧ r.2.2 ≤ 99
theorem MRd.keep {fs ids : List Nat} {rs : List Ride} {σ s : AS} (h : MRd rs σ) (hS : mS fs ids σ s) (h1 : ids.contains 231 = false) (h2 : (ids.contains 200 || fs.contains 47) = false) : MRd rs s := by
  have e0 : ∀ k, gI s 231 k = gI σ 231 k := hS.ia 231 h1 rfl
  simp only [Bool.or_eq_false_iff] at h2
  have e1 : gI s 200 47 = gI σ 200 47 := hS.i 200 47 h2.1 (by rw [h2.2]; rfl)
  unfold MRd at h ⊢
  simp only [e0, e1]
  exact h
theorem crowd_le (T : Twn) : ∀ (rs : List Ride) (s h : Nat), (∀ r ∈ rs, r.2.2 ≤ 99) → crowd T rs s h ≤ 99 * rs.length
  | [], _, _, _ => by simp [crowd]
  | r :: rs, s, h, hr => by
    have h1 := crowd_le T rs s h (fun q hq => hr q (List.mem_cons_of_mem _ hq))
    have h2 := hr r List.mem_cons_self
    unfold crowd at h1 ⊢
    rw [List.map_cons, List.sum_cons, List.length_cons]
    have h3 : rideIn T s h r ≤ 99 := by unfold rideIn; split <;> omega
    omega
theorem crowd_take (T : Twn) (rs : List Ride) (s h k : Nat) (r : Ride) (hk : rs[k]? = some r) : crowd T (rs.take (k+1)) s h = crowd T (rs.take k) s h + rideIn T s h r := by
  unfold crowd
  rw [List.take_succ, hk]
  simp
theorem MRd.mem {rs : List Ride} {σ : AS} (h : MRd rs σ) (r : Ride) (hr : r ∈ rs) : r.2.2 ≤ 99 := by
  obtain ⟨k, hk⟩ := List.getElem?_of_mem hr
  exact (h.2.2 k r hk).2.2.2
theorem le_pred {a lp : Nat} (ha : a < 1073741824) (hl : lp < 1073741824) : nI a ≤ nI lp - nI 1 ↔ a < lp := by
  have h1 := pk_sub_toInt (a := lp) (b := 1) (by omega) (by omega)
  rw [Int32.le_iff_toInt_le, nI_toInt (by omega), h1]
  omega
theorem le_sub2 {b w c : Nat} (hb : b < 100000) (hw : w < 100000) (hc : c < 100000) : nI b ≤ nI w - nI c ↔ b + c ≤ w := by
  have h1 := pk_sub_toInt (a := w) (b := c) (by omega) (by omega)
  rw [Int32.le_iff_toInt_le, nI_toInt (by omega), h1]
  omega
theorem free_nil (T : Twn) (n : Nws) (s b h : Nat) : freeF T n [] s b h = passF T n s b h := by
  unfold freeF passF wideF crowd
  simp
/-- a taken hour, and all before it -/
theorem taken_spec (T : Twn) (n : Nws) (rs : List Ride) (s b lp : Nat) (ht : 1 ≤ Ttk T s) (hlp : lp ≤ 900000) : ∀ (m h : Nat), lp - h ≤ m →
    (takenF T n rs s b lp m h = NV ∧ ∀ k, h ≤ k → k + Ttk T s < lp → freeF T n rs s b k = false) ∨
    (h ≤ takenF T n rs s b lp m h ∧ takenF T n rs s b lp m h + Ttk T s < lp ∧ freeF T n rs s b (takenF T n rs s b lp m h) = true ∧ ∀ k, h ≤ k → k < takenF T n rs s b lp m h → freeF T n rs s b k = false)
  | 0, h, hm => Or.inl ⟨rfl, fun k h1 h2 => by omega⟩
  | m+1, h, hm => by
    unfold takenF
    by_cases h1 : h + Ttk T s < lp
    · rw [if_pos h1]
      by_cases h2 : freeF T n rs s b h = true
      · rw [if_pos h2]
        exact Or.inr ⟨Nat.le_refl _, h1, h2, fun k q1 q2 => by omega⟩
      · rw [if_neg h2]
        rcases taken_spec T n rs s b lp ht hlp m (h+1) (by omega) with ⟨q1, q2⟩ | ⟨q1, q2, q3, q4⟩
        · refine Or.inl ⟨q1, fun k k1 k2 => ?_⟩
          by_cases e : k = h
          · subst e; simpa using h2
          · exact q2 k (by omega) k2
        · refine Or.inr ⟨by omega, q2, q3, fun k k1 k2 => ?_⟩
          by_cases e : k = h
          · subst e; simpa using h2
          · exact q4 k (by omega) k2
    · rw [if_neg h1]
      exact Or.inl ⟨rfl, fun k k1 k2 => by omega⟩
theorem takenF_fuel (T : Twn) (n : Nws) (rs : List Ride) (s b lp : Nat) (ht : 1 ≤ Ttk T s) : ∀ (m h : Nat), lp - h ≤ m → takenF T n rs s b lp m h = tk1 T n rs s b h lp := by
  intro m
  induction m with
  | zero =>
    intro h hm
    unfold tk1
    rw [show lp - h = 0 by omega]
  | succ m ih =>
    intro h hm
    unfold tk1
    by_cases h1 : h + Ttk T s < lp
    · obtain ⟨q, hq⟩ : ∃ q, lp - h = q + 1 := ⟨lp - h - 1, by omega⟩
      rw [hq]
      unfold takenF
      rw [if_pos h1]
      split
      · rfl
      · rw [ih (h+1) (by omega)]
        unfold tk1
        rw [show lp - (h + 1) = q by omega]
    · have e1 : takenF T n rs s b lp (m+1) h = NV := by unfold takenF; rw [if_neg h1]
      rw [e1]
      cases hq : lp - h with
      | zero => rfl
      | succ q => unfold takenF; rw [if_neg h1]
theorem tk1_step (T : Twn) (n : Nws) (rs : List Ride) (s b h lp : Nat) (ht : 1 ≤ Ttk T s) (h1 : h + Ttk T s < lp) (h2 : freeF T n rs s b h = false) : tk1 T n rs s b h lp = tk1 T n rs s b (h+1) lp := by
  unfold tk1
  obtain ⟨q, hq⟩ : ∃ q, lp - h = q + 1 := ⟨lp - h - 1, by omega⟩
  rw [hq]
  conv => lhs; unfold takenF
  rw [if_pos h1, if_neg (by rw [h2]; decide), show lp - (h+1) = q by omega]
theorem tk1_here (T : Twn) (n : Nws) (rs : List Ride) (s b h lp : Nat) (ht : 1 ≤ Ttk T s) (h1 : h + Ttk T s < lp) (h2 : freeF T n rs s b h = true) : tk1 T n rs s b h lp = h := by
  unfold tk1
  obtain ⟨q, hq⟩ : ∃ q, lp - h = q + 1 := ⟨lp - h - 1, by omega⟩
  rw [hq]
  unfold takenF
  rw [if_pos h1, if_pos h2]
theorem tk1_out (T : Twn) (n : Nws) (rs : List Ride) (s b h lp : Nat) (h1 : ¬ h + Ttk T s < lp) : tk1 T n rs s b h lp = NV := by
  unfold tk1
  cases hq : lp - h with
  | zero => rfl
  | succ q => unfold takenF; rw [if_neg h1]
