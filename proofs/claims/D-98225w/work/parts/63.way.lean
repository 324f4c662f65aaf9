/-! THE soonest hours as a function; ways back from a place -/
noncomputable def EAf (T : Twn) (n : Nws) (rs : List Ride) (wo b lp src hr : Nat) : Nat → Nat :=
  @dite (Nat → Nat) (∃ A : Nat → Nat, (∀ q, A q ≤ NV) ∧ IsEA T n rs wo b lp src hr A) (Classical.propDecidable _) (fun h => Classical.choose h) (fun _ _ => NV)
theorem EAf_eq {T : Twn} {n : Nws} {rs : List Ride} {wo b lp src hr : Nat} {A : Nat → Nat} (hA : IsEA T n rs wo b lp src hr A) (h9 : ∀ q, q < Tnp T → A q ≤ NV) : (∀ q, q < Tnp T → A q = EAf T n rs wo b lp src hr q) ∧ IsEA T n rs wo b lp src hr (EAf T n rs wo b lp src hr) ∧ ∀ q, EAf T n rs wo b lp src hr q ≤ NV := by
  have hex : ∃ A : Nat → Nat, (∀ q, A q ≤ NV) ∧ IsEA T n rs wo b lp src hr A := by
    refine ⟨fun q => if q < Tnp T then A q else NV, fun q => ?_, fun q hq => ?_⟩
    · show (if q < Tnp T then A q else NV) ≤ NV
      split
      · rename_i h; exact h9 q h
      · exact Nat.le_refl _
    · have e : (fun q => if q < Tnp T then A q else NV) q = A q := if_pos hq
      rw [e]
      exact hA q hq
  have e : EAf T n rs wo b lp src hr = Classical.choose hex := by
    unfold EAf
    exact dif_pos hex
  have hs := Classical.choose_spec hex
  rw [← e] at hs
  exact ⟨hA.uniq hs.2 h9 (fun q _ => hs.1 q), hs.2, hs.1⟩
def backOK (T : Twn) (n : Nws) (rs : List Ride) (wo b : Nat) (A : Nat → Nat) (p s q : Nat) : Prop := s ≠ wo ∧ A q ≠ NV ∧ tk1 T n rs s b (A q) (A p + 1) ≠ NV ∧ tk1 T n rs s b (A q) (A p + 1) + Ttk T s = A p
/-- the first street by which p is come to in its soonest hour: street, whence, when -/
noncomputable def backF (T : Twn) (n : Nws) (rs : List Ride) (wo b : Nat) (A : Nat → Nat) (p : Nat) : Nat → Nat → Option (Nat × Nat × Nat)
  | 0, _ => none
  | m+1, s => match otherF T s p with
    | some q => @ite _ (backOK T n rs wo b A p s q) (Classical.propDecidable _) (some (s, q, tk1 T n rs s b (A q) (A p + 1))) (backF T n rs wo b A p m (s+1))
    | none => backF T n rs wo b A p m (s+1)
noncomputable def back1 (T : Twn) (n : Nws) (rs : List Ride) (wo b : Nat) (A : Nat → Nat) (p : Nat) : Option (Nat × Nat × Nat) := backF T n rs wo b A p (Tns T) 0
theorem backF_none {T : Twn} {n : Nws} {rs : List Ride} {wo b : Nat} {A : Nat → Nat} {p m s : Nat} (h : ∀ q, otherF T s p = some q → ¬ backOK T n rs wo b A p s q) : backF T n rs wo b A p (m+1) s = backF T n rs wo b A p m (s+1) := by
  show (match otherF T s p with
    | some q => @ite _ (backOK T n rs wo b A p s q) (Classical.propDecidable _) (some (s, q, tk1 T n rs s b (A q) (A p + 1))) (backF T n rs wo b A p m (s+1))
    | none => backF T n rs wo b A p m (s+1)) = _
  cases ho : otherF T s p with
  | none => rfl
  | some q => exact if_neg (h q ho)
theorem backF_some {T : Twn} {n : Nws} {rs : List Ride} {wo b : Nat} {A : Nat → Nat} {p m s q : Nat} (ho : otherF T s p = some q) (h : backOK T n rs wo b A p s q) : backF T n rs wo b A p (m+1) s = some (s, q, tk1 T n rs s b (A q) (A p + 1)) := by
  show (match otherF T s p with
    | some q => @ite _ (backOK T n rs wo b A p s q) (Classical.propDecidable _) (some (s, q, tk1 T n rs s b (A q) (A p + 1))) (backF T n rs wo b A p m (s+1))
    | none => backF T n rs wo b A p m (s+1)) = _
  rw [ho]
  exact if_pos h
theorem backF_is {T : Twn} {n : Nws} {rs : List Ride} {wo b : Nat} {A : Nat → Nat} {p : Nat} : ∀ (m s : Nat) (x : Nat × Nat × Nat), backF T n rs wo b A p m s = some x → s ≤ x.1 ∧ x.1 < s + m ∧ otherF T x.1 p = some x.2.1 ∧ backOK T n rs wo b A p x.1 x.2.1 ∧ x.2.2 = tk1 T n rs x.1 b (A x.2.1) (A p + 1)
  | 0, s, x, h => by simp [backF] at h
  | m+1, s, x, h => by
    by_cases hc : ∃ q, otherF T s p = some q ∧ backOK T n rs wo b A p s q
    · obtain ⟨q, h1, h2⟩ := hc
      rw [backF_some h1 h2] at h
      cases h
      exact ⟨Nat.le_refl _, by omega, h1, h2, rfl⟩
    · rw [backF_none (fun q h1 h2 => hc ⟨q, h1, h2⟩)] at h
      obtain ⟨h1, h2, h3⟩ := backF_is m (s+1) x h
      exact ⟨by omega, by omega, h3⟩
theorem backF_ex {T : Twn} {n : Nws} {rs : List Ride} {wo b : Nat} {A : Nat → Nat} {p : Nat} : ∀ (m s s0 q : Nat), s ≤ s0 → s0 < s + m → otherF T s0 p = some q → backOK T n rs wo b A p s0 q → ∃ x, backF T n rs wo b A p m s = some x
  | 0, s, s0, q, h1, h2, _, _ => by omega
  | m+1, s, s0, q, h1, h2, h3, h4 => by
    by_cases hc : ∃ q, otherF T s p = some q ∧ backOK T n rs wo b A p s q
    · obtain ⟨q9, e1, e2⟩ := hc
      exact ⟨_, backF_some e1 e2⟩
    · rw [backF_none (fun q h1 h2 => hc ⟨q, h1, h2⟩)]
      have : s ≠ s0 := fun e => hc ⟨q, by rw [e]; exact h3, by rw [e]; exact h4⟩
      exact backF_ex m (s+1) s0 q (by omega) (by omega) h3 h4
theorem other_np {T : Twn} (hT : TOK T) {s p q : Nat} (hs : s < Tns T) (h : otherF T s p = some q) : q < Tnp T ∧ Edge T 99 s q p ∧ (s ≠ 98 → True) := by
  have h2 := hT.2.1 s hs
  have h12 := hT.1
  unfold otherF at h
  split at h
  · rename_i e
    cases h
    exact ⟨h2.2.1, ⟨hs, by omega, Or.inr ⟨rfl, e⟩⟩, fun _ => trivial⟩
  · split at h
    · rename_i e
      cases h
      exact ⟨h2.1, ⟨hs, by omega, Or.inl ⟨rfl, e⟩⟩, fun _ => trivial⟩
    · cases h
theorem edge_other {T : Twn} (hT : TOK T) {wo s p q : Nat} (h : Edge T wo s q p) : otherF T s p = some q := by
  obtain ⟨h1, h2, h3⟩ := h
  have := (hT.2.1 s h1).2.2.1
  unfold otherF
  rcases h3 with ⟨rfl, rfl⟩ | ⟨rfl, rfl⟩
  · rw [if_neg this, if_pos rfl]
  · rw [if_pos rfl]
/-- every place that is reached is come to by a street -/
theorem back_ex {T : Twn} {n : Nws} {rs : List Ride} {wo b lp src hr : Nat} {A : Nat → Nat} (hT : TOK T) (hA : IsEA T n rs wo b lp src hr A) (h9 : ∀ q, q < Tnp T → A q ≤ NV) (hlp : lp ≤ 900000) {p : Nat} (hp : p < Tnp T) (hne : A p ≠ NV) (hps : p ≠ src) :
    ∃ s q h, back1 T n rs wo b A p = some (s, q, h) ∧ s < Tns T ∧ q < Tnp T ∧ A q ≠ NV ∧ A q ≤ h ∧ h + Ttk T s = A p ∧ A q < A p := by
  obtain ⟨k, hk⟩ := (hA p hp).1 hne
  cases k with
  | zero => exact absurd hk.1 hps
  | succ k =>
    obtain ⟨s, q, t', h, h1, h2, h3, h4, h5, h6⟩ := hk
    have hs := h2.1
    have ht := (hT.2.1 s hs).2.2.2.1
    have ho := edge_other hT h2
    have hq := (other_np hT hs ho).1
    have hAq : A q ≤ t' := (hA q hq).2 k t' h1
    have hAq9 : A q ≠ NV := by unfold NV; omega
    have hok : backOK T n rs wo b A p s q := by
      refine ⟨h2.2.1, hAq9, ?_⟩
      rcases tk1_spec T n rs s b (A q) (A p + 1) ht.1 (by omega) with ⟨q1, q2⟩ | ⟨q1, q2, q3, q4, q5⟩
      · have := q2 h (by omega) (by omega)
        rw [h4] at this
        cases this
      · refine ⟨q1, ?_⟩
        obtain ⟨m, hm⟩ := (hA q hq).1 hAq9
        have hl := (hA p hp).2 (m+1) (tk1 T n rs s b (A q) (A p + 1) + Ttk T s) ⟨s, q, A q, _, hm, h2, q2, q4, by omega, rfl⟩
        omega
    obtain ⟨x, hx⟩ := backF_ex (Tns T) 0 s q (Nat.zero_le _) (by omega) ho hok
    obtain ⟨x1, x2, x3, x4, x5⟩ := backF_is _ _ _ hx
    obtain ⟨s9, q9, h9'⟩ := x
    have hs9 : s9 < Tns T := by have : s9 < 0 + Tns T := x2; omega
    have ht9 := (hT.2.1 s9 hs9).2.2.2.1
    have hb : h9' + Ttk T s9 = A p := by rw [show h9' = _ from x5]; exact x4.2.2.2
    have hle : A q9 ≤ h9' := by
      rw [show h9' = _ from x5]
      rcases tk1_spec T n rs s9 b (A q9) (A p + 1) ht9.1 (by omega) with ⟨e1, -⟩ | ⟨-, e2, -⟩
      · exact absurd e1 x4.2.2.1
      · exact e2
    exact ⟨s9, q9, h9', hx, hs9, (other_np hT hs9 x3).1, x4.2.1, hle, hb, by omega⟩
/-- the way from its end back: streets and hours -/
noncomputable def wayF (T : Twn) (n : Nws) (rs : List Ride) (wo b : Nat) (A : Nat → Nat) (src : Nat) : Nat → Nat → List (Nat × Nat)
  | 0, _ => []
  | m+1, p => if p = src then [] else match back1 T n rs wo b A p with
    | some x => (x.1, x.2.2) :: wayF T n rs wo b A src m x.2.1
    | none => []
def cnt9 (A : Nat → Nat) (v : Nat) : Nat := (List.range 9).countP (fun q => decide (A q < v))
theorem countP_lt {P Q : Nat → Bool} : ∀ (l : List Nat), (∀ x ∈ l, P x = true → Q x = true) → (∃ y ∈ l, P y = false ∧ Q y = true) → l.countP P < l.countP Q
  | [], _, h => by obtain ⟨y, hy, -⟩ := h; simp at hy
  | a :: l, h1, h2 => by
    have hm : l.countP P ≤ l.countP Q := List.countP_mono_left (fun x hx hp => h1 x (List.mem_cons_of_mem _ hx) hp)
    obtain ⟨y, hy, p1, p2⟩ := h2
    rw [List.countP_cons, List.countP_cons]
    rcases List.mem_cons.mp hy with rfl | hy
    · rw [p1, p2]
      simp
      omega
    · have := countP_lt l (fun x hx => h1 x (List.mem_cons_of_mem _ hx)) ⟨y, hy, p1, p2⟩
      by_cases hp : P a = true
      · rw [hp, h1 a List.mem_cons_self hp]
        simp
        exact this
      · have : P a = false := by simpa using hp
        rw [this]
        simp
        split <;> omega
theorem cnt9_lt {A : Nat → Nat} {p q : Nat} (hq : q < 9) (h : A q < A p) : cnt9 A (A q) < cnt9 A (A p) := by
  refine countP_lt _ (fun x _ hx => ?_) ⟨q, List.mem_range.mpr hq, by simp, by simpa using h⟩
  have := of_decide_eq_true hx
  exact decide_eq_true (by omega)
theorem cnt9_8 {A : Nat → Nat} {p : Nat} (hp : p < 9) : cnt9 A (A p) ≤ 8 := by
  have h1 : cnt9 A (A p) < cnt9 A (A p + 1) := countP_lt _ (fun x _ hx => by have := of_decide_eq_true hx; exact decide_eq_true (by omega)) ⟨p, List.mem_range.mpr hp, by simp, by simp⟩
  have h2 : cnt9 A (A p + 1) ≤ 9 := by
    have := List.countP_le_length (l := List.range 9) (p := fun q => decide (A q < A p + 1))
    simpa [cnt9] using this
  omega
