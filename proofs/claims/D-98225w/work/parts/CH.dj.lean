/-! SOONEST HOURS label by label, plain: A the labels, D which places are done, bst the place being spread, its streets below lim being spread -/
def tkW (T : Twn) (n : Nws) (rs : List Ride) (wo s b h lp : Nat) : Nat := if s = wo then NV else tk1 T n rs s b h lp
theorem tkW_step (T : Twn) (n : Nws) (rs : List Ride) (wo s b h lp : Nat) (ht : 1 ≤ Ttk T s) : tkW T n rs wo s b h lp = if h + Ttk T s < lp then (if (decide (s ≠ wo) && freeF T n rs s b h) = true then h else tkW T n rs wo s b (h+1) lp) else NV := by
  unfold tkW
  by_cases hw : s = wo
  · rw [if_pos hw, if_pos hw, decide_eq_false (fun q => q hw)]
    simp
  · rw [if_neg hw, if_neg hw, decide_eq_true hw]
    by_cases hl : h + Ttk T s < lp
    · rw [if_pos hl]
      have e : tk1 T n rs s b h lp = takenF T n rs s b lp ((lp - (h + 1)) + 1) h := by
        unfold tk1
        rw [show lp - h = lp - (h + 1) + 1 by omega]
      rw [e]
      show (if h + Ttk T s < lp then (if freeF T n rs s b h = true then h else takenF T n rs s b lp (lp - (h+1)) (h+1)) else NV) = _
      rw [if_pos hl]
      simp only [Bool.true_and]
      rfl
    · rw [if_neg hl]
      unfold tk1
      cases hm : lp - h with
      | zero => rfl
      | succ m =>
        show (if h + Ttk T s < lp then _ else NV) = NV
        rw [if_neg hl]
def DI (T : Twn) (n : Nws) (rs : List Ride) (wo b lp src hr : Nat) (A : Nat → Nat) (D : Nat → Bool) (bst lim : Nat) : Prop :=
  (∀ q, q < Tnp T → A q ≠ NV → ∃ k, Ach T n rs wo b lp src hr k q (A q)) ∧ A src ≤ hr ∧ (∀ p, p < Tnp T → D p = true → A p ≠ NV) ∧
  (∀ p q, p < Tnp T → q < Tnp T → D p = true → D q = false → A p ≤ A q) ∧
  (∀ p q s h, p < Tnp T → D p = true → (p = bst → s < lim) → Edge T wo s p q → A p ≤ h → freeF T n rs s b h = true → h + Ttk T s < lp → A q ≤ h + Ttk T s)
theorem DI.start {T : Twn} {n : Nws} {rs : List Ride} {wo b lp src hr : Nat} {A : Nat → Nat} {D : Nat → Bool} {c k bst : Nat} (h : DI T n rs wo b lp src hr A D c k) (hk : ∀ p s, Edge T wo s c p → s < k) (hb : bst < Tnp T) (hD : D bst = false) (hA : A bst ≠ NV) (hmin : ∀ q, q < Tnp T → D q = false → A bst ≤ A q) :
    DI T n rs wo b lp src hr A (fun p => if p = bst then true else D p) bst 0 ∧ (∀ q, q < Tnp T → D q = true → A q ≤ A bst) := by
  obtain ⟨h1, h2, h3, h4, h5⟩ := h
  refine ⟨⟨h1, h2, fun p hp hd => ?_, fun p q hp hq hd hn => ?_, fun p q s h hp hd hl he ha hf hlp => ?_⟩, fun q hq hd => h4 q bst hq hb hd hD⟩
  · by_cases e : p = bst
    · rw [e]; exact hA
    · exact h3 p hp (by simpa [e] using hd)
  · have hq9 : D q = false := by
      by_cases e : q = bst
      · simp [e] at hn
      · simpa [e] using hn
    by_cases e : p = bst
    · rw [e]; exact hmin q hq hq9
    · exact h4 p q hp hq (by simpa [e] using hd) hq9
  · by_cases e : p = bst
    · have := hl e; omega
    · exact h5 p q s h hp (by simpa [e] using hd) (fun e2 => hk q s (by rw [← e2]; exact he)) he ha hf hlp
theorem DI.skip {T : Twn} {n : Nws} {rs : List Ride} {wo b lp src hr : Nat} {A : Nat → Nat} {D : Nat → Bool} {bst s : Nat} (h : DI T n rs wo b lp src hr A D bst s) (hs : ∀ q, Edge T wo s bst q → ∀ h, A bst ≤ h → freeF T n rs s b h = true → h + Ttk T s < lp → A q ≤ h + Ttk T s) : DI T n rs wo b lp src hr A D bst (s+1) := by
  obtain ⟨h1, h2, h3, h4, h5⟩ := h
  refine ⟨h1, h2, h3, h4, fun p q j h hp hd hl he ha hf hlp => ?_⟩
  by_cases e : p = bst
  · by_cases e2 : j = s
    · subst e; subst e2; exact hs q he h ha hf hlp
    · exact h5 p q j h hp hd (fun _ => by have := hl e; omega) he ha hf hlp
  · exact h5 p q j h hp hd (fun e2 => absurd e2 e) he ha hf hlp
theorem DI.relax {T : Twn} {n : Nws} {rs : List Ride} {wo b lp src hr : Nat} {A : Nat → Nat} {D : Nat → Bool} {bst s to : Nat} (hT : TOK T) (hlp9 : lp ≤ 900000) (h : DI T n rs wo b lp src hr A D bst s) (hb : bst < Tnp T) (hDb : D bst = true) (hle : ∀ q, q < Tnp T → D q = true → A q ≤ A bst) (hs : s < Tns T) (ho : otherF T s bst = some to) (hDt : D to = false) (hk : tkW T n rs wo s b (A bst) lp ≠ NV) :
    DI T n rs wo b lp src hr (updN A to (min (A to) (tkW T n rs wo s b (A bst) lp + Ttk T s))) D bst (s+1) ∧ tkW T n rs wo s b (A bst) lp + Ttk T s < lp ∧ to < Tnp T := by
  have hw : s ≠ wo := fun e => hk (by unfold tkW; rw [if_pos e])
  have ek : tkW T n rs wo s b (A bst) lp = tk1 T n rs s b (A bst) lp := by unfold tkW; rw [if_neg hw]
  rw [ek] at hk ⊢
  have hts := (hT.2.1 s hs).2.2.2.1
  obtain ⟨hto, he0, -⟩ := other_np hT hs ho
  rcases tk1_spec T n rs s b (A bst) lp hts.1 hlp9 with ⟨q1, -⟩ | ⟨-, q2, q3, q4, q5⟩
  · exact absurd q1 hk
  generalize tk1 T n rs s b (A bst) lp = h0 at *
  have hle2 := hle
  obtain ⟨h1, h2, h3, h4, h5⟩ := h
  have hne : ∀ p, D p = true → p ≠ to := fun p hp e => by rw [e, hDt] at hp; cases hp
  have hAle : ∀ q, updN A to (min (A to) (h0 + Ttk T s)) q ≤ A q := fun q => by
    unfold updN
    split
    · rename_i e; rw [e]; omega
    · exact Nat.le_refl _
  have hAeq : ∀ p, D p = true → updN A to (min (A to) (h0 + Ttk T s)) p = A p := fun p hp => by unfold updN; rw [if_neg (hne p hp)]
  have hedge : Edge T wo s bst to := by
    have h9 := hT.2.1 s hs
    unfold otherF at ho
    split at ho
    · rename_i e; cases ho; exact ⟨hs, hw, Or.inl ⟨e, rfl⟩⟩
    · split at ho
      · rename_i e; cases ho; exact ⟨hs, hw, Or.inr ⟨e, rfl⟩⟩
      · cases ho
  refine ⟨⟨fun q hq hq9 => ?_, Nat.le_trans (hAle src) h2, fun p hp hd => by rw [hAeq p hd]; exact h3 p hp hd, fun p q hp hq hd hn => ?_, fun p q j h hp hd hl he ha hf hlp => ?_⟩, q3, hto⟩
  · by_cases e : q = to
    · subst e
      have e1 : updN A q (min (A q) (h0 + Ttk T s)) q = min (A q) (h0 + Ttk T s) := by unfold updN; rw [if_pos rfl]
      rw [e1]
      rw [e1] at hq9
      by_cases e2 : A q ≤ h0 + Ttk T s
      · rw [Nat.min_eq_left e2]
        exact h1 q hq (by rw [Nat.min_eq_left e2] at hq9; exact hq9)
      · rw [Nat.min_eq_right (by omega)]
        obtain ⟨k, hk⟩ := h1 bst hb (h3 bst hb hDb)
        exact ⟨k+1, s, bst, A bst, h0, hk, hedge, q2, q4, q3, rfl⟩
    · have e1 : updN A to (min (A to) (h0 + Ttk T s)) q = A q := by unfold updN; rw [if_neg e]
      rw [e1]
      rw [e1] at hq9
      exact h1 q hq hq9
  · rw [hAeq p hd]
    by_cases e : q = to
    · subst e
      have e1 : updN A q (min (A q) (h0 + Ttk T s)) q = min (A q) (h0 + Ttk T s) := by unfold updN; rw [if_pos rfl]
      rw [e1]
      have a1 := h4 p q hp hq hd hn
      have a2 := hle2 p hp hd
      omega
    · have e1 : updN A to (min (A to) (h0 + Ttk T s)) q = A q := by unfold updN; rw [if_neg e]
      rw [e1]
      exact h4 p q hp hq hd hn
  · rw [hAeq p hd] at ha
    by_cases e : p = bst ∧ j = s
    · obtain ⟨e1, e2⟩ := e
      subst e1; subst e2
      have hqt : q = to := by
        have := edge_other hT (wo := wo) (s := j) (p := p) (q := q) ⟨he.1, he.2.1, by rcases he.2.2 with ⟨a, b⟩ | ⟨a, b⟩; exact Or.inr ⟨b, a⟩; exact Or.inl ⟨b, a⟩⟩
        rw [ho] at this
        exact (Option.some.inj this).symm
      subst hqt
      have e1 : updN A q (min (A q) (h0 + Ttk T j)) q = min (A q) (h0 + Ttk T j) := by unfold updN; rw [if_pos rfl]
      rw [e1]
      have : h0 ≤ h := by
        rcases Nat.lt_or_ge h h0 with h8 | h8
        · have := q5 h ha h8
          rw [hf] at this
          cases this
        · exact h8
      omega
    · have := h5 p q j h hp hd (fun e1 => by
        have := hl e1
        have : j ≠ s := fun e2 => e ⟨e1, e2⟩
        omega) he ha hf hlp
      exact Nat.le_trans (hAle q) this
/-- what is done is closed; what is not done is not reached: these are the soonest -/
theorem DI.isEA {T : Twn} {n : Nws} {rs : List Ride} {wo b lp src hr : Nat} {A : Nat → Nat} {D : Nat → Bool} {bst lim : Nat} (hT : TOK T) (hlp9 : lp ≤ 900000) (hr9 : hr < NV) (h : DI T n rs wo b lp src hr A D bst lim) (hk : ∀ p s, Edge T wo s bst p → s < lim) (hall : ∀ p, p < Tnp T → A p ≠ NV → D p = true) : IsEA T n rs wo b lp src hr A := by
  obtain ⟨h1, h2, h3, h4, h5⟩ := h
  refine IsEA.of_closed hT hlp9 h2 hr9 h1 (fun s hs hw => ?_)
  have h9 := hT.2.1 s hs
  have one : ∀ p q, p < Tnp T → Edge T wo s p q → relaxH T n rs s b lp A p q = NV := by
    intro p q hp he
    unfold relaxH
    by_cases e : A p = NV
    · rw [if_pos e]
    · rw [if_neg e]
      rcases tk1_spec T n rs s b (A p) (min (A q) lp) h9.2.2.2.1.1 (by omega) with ⟨q1, -⟩ | ⟨-, q2, q3, q4, -⟩
      · exact q1
      · exfalso
        have := h5 p q s _ hp (hall p hp e) (fun e2 => hk q s (by rw [← e2]; exact he)) he q2 q4 (by omega)
        omega
  exact ⟨one _ _ h9.1 ⟨hs, hw, Or.inl ⟨rfl, rfl⟩⟩, one _ _ h9.2.1 ⟨hs, hw, Or.inr ⟨rfl, rfl⟩⟩⟩
/-- how many are done -/
def cntD (D : Nat → Bool) (m : Nat) : Nat := (List.range m).countP D
theorem cntD_all {D : Nat → Bool} {m : Nat} (h : m ≤ cntD D m) : ∀ p, p < m → D p = true := by
  intro p hp
  have h1 : (List.range m).countP D = (List.range m).length := by
    have := List.countP_le_length (l := List.range m) (p := D)
    unfold cntD at h
    rw [List.length_range] at *
    omega
  exact List.countP_eq_length.mp h1 p (List.mem_range.mpr hp)
theorem cntD_set {D : Nat → Bool} {m b : Nat} (hb : b < m) (hD : D b = false) : cntD D m < cntD (fun p => if p = b then true else D p) m := by
  unfold cntD
  refine countP_lt _ (fun x _ hx => ?_) ⟨b, List.mem_range.mpr hb, hD, by simp⟩
  by_cases e : x = b
  · simp [e]
  · simp [e, hx]
