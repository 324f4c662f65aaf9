/-! SHORTEST WAYS: hours of streets together: the soonest hours of who is of no breadth, from hour 0 on -/
theorem free0 (T : Twn) (n : Nws) (s h : Nat) : freeF T n [] s 0 h = true := by
  unfold freeF crowd
  rw [List.all_eq_true]
  intro i _
  exact decide_eq_true (by simp)
theorem min_ex {P : Nat → Prop} : ∀ (m : Nat), P m → ∃ t, P t ∧ ∀ u, P u → t ≤ u := by
  intro m
  induction m using Nat.strongRecOn with
  | ind m ih =>
    intro h
    by_cases hc : ∃ u, u < m ∧ P u
    · obtain ⟨u, hu, hp⟩ := hc
      exact ih u hu hp
    · refine ⟨m, h, fun u hu => ?_⟩
      rcases Nat.lt_or_ge u m with q | q
      · exact absurd ⟨u, q, hu⟩ hc
      · exact q
theorem EA_ex {T : Twn} {n : Nws} {rs : List Ride} {wo b lp src hr : Nat} (hlp : lp ≤ 900000) (hhr : hr ≤ 900000) : ∃ A : Nat → Nat, (∀ q, A q ≤ NV) ∧ IsEA T n rs wo b lp src hr A := by
  have low : ∀ k q t, Ach T n rs wo b lp src hr k q t → t ≤ 900000 := by
    intro k q t h
    cases k with
    | zero => rw [h.2]; exact hhr
    | succ k =>
      obtain ⟨s, p, t', h', -, -, -, -, h5, rfl⟩ := h
      omega
  have each : ∀ q, ∃ v, v ≤ NV ∧ (v ≠ NV → ∃ k, Ach T n rs wo b lp src hr k q v) ∧ ∀ k t, Ach T n rs wo b lp src hr k q t → v ≤ t := by
    intro q
    by_cases hc : ∃ t, ∃ k, Ach T n rs wo b lp src hr k q t
    · obtain ⟨t, ht⟩ := hc
      obtain ⟨v, ⟨k, hk⟩, hm⟩ := min_ex (P := fun t => ∃ k, Ach T n rs wo b lp src hr k q t) t ht
      exact ⟨v, by have := low k q v hk; unfold NV; omega, fun _ => ⟨k, hk⟩, fun k t h => hm t ⟨k, h⟩⟩
    · exact ⟨NV, Nat.le_refl _, fun h => absurd rfl h, fun k t h => absurd ⟨t, k, h⟩ hc⟩
  exact ⟨fun q => Classical.choose (each q), fun q => (Classical.choose_spec (each q)).1, fun q _ => (Classical.choose_spec (each q)).2⟩
theorem EAf_is {T : Twn} {n : Nws} {rs : List Ride} {wo b lp src hr : Nat} (hlp : lp ≤ 900000) (hhr : hr ≤ 900000) : IsEA T n rs wo b lp src hr (EAf T n rs wo b lp src hr) ∧ ∀ q, EAf T n rs wo b lp src hr q ≤ NV := by
  obtain ⟨A, h1, h2⟩ := EA_ex (T := T) (n := n) (rs := rs) (wo := wo) (b := b) (lp := lp) (src := src) (hr := hr) hlp hhr
  exact (EAf_eq h2 (fun q _ => h1 q)).2
noncomputable def SD (T : Twn) (n : Nws) (src : Nat) : Nat → Nat := EAf T n [] 99 0 900000 src 0
theorem SD_is (T : Twn) (n : Nws) (src : Nat) : IsEA T n [] 99 0 900000 src 0 (SD T n src) ∧ ∀ q, SD T n src q ≤ NV := EAf_is (Nat.le_refl _) (by omega)
theorem SD_ach {T : Twn} {n : Nws} {src p : Nat} (hp : p < Tnp T) (h : SD T n src p ≠ NV) : ∃ k, Ach T n [] 99 0 900000 src 0 k p (SD T n src p) := ((SD_is T n src).1 p hp).1 h
theorem SD_low {T : Twn} {n : Nws} {src p : Nat} (hp : p < Tnp T) (h : SD T n src p ≠ NV) : SD T n src p < 900000 := by
  obtain ⟨k, hk⟩ := SD_ach hp h
  cases k with
  | zero => rw [hk.2]; omega
  | succ k =>
    obtain ⟨s, p', t', h', -, -, -, -, h5, h6⟩ := hk
    omega
theorem SD_ok {T : Twn} {n : Nws} {src s p q : Nat} (hT : TOK T) (hs : s < Tns T) (hp : SD T n src p < 900000) (hq : SD T n src q ≤ NV) : backOK T n [] 99 0 (SD T n src) p s q ↔ SD T n src q + Ttk T s = SD T n src p := by
  have ht := (hT.2.1 s hs).2.2.2.1
  have h12 := hT.1
  constructor
  · intro ⟨_, h2, h3, h4⟩
    by_cases hc : SD T n src q + Ttk T s < SD T n src p + 1
    · rw [tk1_here T n [] s 0 _ _ ht.1 hc (free0 T n s _)] at h4
      exact h4
    · exact absurd (tk1_out T n [] s 0 _ _ hc) h3
  · intro h
    have hc : SD T n src q + Ttk T s < SD T n src p + 1 := by omega
    refine ⟨by omega, by unfold NV; omega, ?_⟩
    rw [tk1_here T n [] s 0 _ _ ht.1 hc (free0 T n s _)]
    exact ⟨by unfold NV; omega, h⟩
theorem SD_src {T : Twn} {n : Nws} {src : Nat} (hs : src < Tnp T) : SD T n src src = 0 := by
  have := ((SD_is T n src).1 src hs).2 0 0 ⟨rfl, rfl⟩
  omega
theorem SD_back {T : Twn} {n : Nws} {src p : Nat} (hT : TOK T) (hp : p < Tnp T) (h : SD T n src p ≠ NV) (hne : p ≠ src) : ∃ s q, back1 T n [] 99 0 (SD T n src) p = some (s, q, SD T n src q) ∧ s < Tns T ∧ q < Tnp T ∧ SD T n src q ≠ NV ∧ otherF T s p = some q ∧ SD T n src q + Ttk T s = SD T n src p := by
  obtain ⟨s, q, h', b1, b2, b3, b4, b5, b6, b7⟩ := back_ex hT (SD_is T n src).1 (fun q _ => (SD_is T n src).2 q) (Nat.le_refl _) hp h hne
  obtain ⟨x1, x2, x3, x4, x5⟩ := backF_is _ _ _ b1
  have hl := SD_low hp h
  have e := (SD_ok hT b2 hl ((SD_is T n src).2 q)).mp x4
  have ht := (hT.2.1 s b2).2.2.2.1
  have e5 : h' = SD T n src q := by
    have : h' = tk1 T n [] s 0 (SD T n src q) (SD T n src p + 1) := x5
    rw [this, tk1_here T n [] s 0 _ _ ht.1 (by omega) (free0 T n s _)]
  subst e5
  exact ⟨s, q, b1, b2, b3, b4, x3, e⟩
def cntN (m : Nat) (A : Nat → Nat) (v : Nat) : Nat := (List.range m).countP (fun q => decide (A q < v))
theorem cntN_lt {m : Nat} {A : Nat → Nat} {p q : Nat} (hq : q < m) (h : A q < A p) : cntN m A (A q) < cntN m A (A p) := by
  refine countP_lt _ (fun x _ hx => ?_) ⟨q, List.mem_range.mpr hq, by simp, by simpa using h⟩
  have := of_decide_eq_true hx
  exact decide_eq_true (by omega)
theorem cntN_le {m : Nat} {A : Nat → Nat} {p : Nat} (hp : p < m) : cntN m A (A p) < m := by
  have h1 : cntN m A (A p) < cntN m A (A p + 1) := countP_lt _ (fun x _ hx => by have := of_decide_eq_true hx; exact decide_eq_true (by omega)) ⟨p, List.mem_range.mpr hp, by simp, by simp⟩
  have h2 : cntN m A (A p + 1) ≤ m := by
    have := List.countP_le_length (l := List.range m) (p := fun q => decide (A q < A p + 1))
    simpa [cntN] using this
  omega
theorem SD_le {T : Twn} {n : Nws} {src : Nat} (hT : TOK T) : ∀ (m p : Nat), cntN (Tnp T) (SD T n src) (SD T n src p) < m → p < Tnp T → SD T n src p ≠ NV → SD T n src p + 4 ≤ 4 * m
  | 0, p, h, _, _ => absurd h (Nat.not_lt_zero _)
  | m+1, p, h, hp, hne => by
    by_cases e : p = src
    · rw [e, SD_src (by omega)]; omega
    · obtain ⟨s, q, -, b2, b3, b4, -, b6⟩ := SD_back hT hp hne e
      have ht := (hT.2.1 s b2).2.2.2.1
      have hc := cntN_lt (m := Tnp T) (A := SD T n src) (p := p) (q := q) b3 (by omega)
      have := SD_le hT m q (by omega) b3 b4
      omega
theorem SD_36 {T : Twn} {n : Nws} {src p : Nat} (hT : TOK T) (hp : p < Tnp T) (hne : SD T n src p ≠ NV) : SD T n src p ≤ 32 := by
  have := SD_le (n := n) (src := src) hT 9 p (by have := cntN_le (A := SD T n src) hp; have := hT.1; omega) hp hne
  omega
theorem SD_edge {T : Twn} {n : Nws} {src s p q : Nat} (hT : TOK T) (h : Edge T 99 s p q) (hp : p < Tnp T) (hq : q < Tnp T) (hne : SD T n src p ≠ NV) : SD T n src q ≤ SD T n src p + Ttk T s := by
  obtain ⟨k, hk⟩ := SD_ach hp hne
  have ht := (hT.2.1 s h.1).2.2.2.1
  have hl := SD_36 hT hp hne
  exact ((SD_is T n src).1 q hq).2 (k+1) _ ⟨s, p, _, _, hk, h, Nat.le_refl _, free0 T n s _, by omega, rfl⟩
/-! rounds over all streets -/
def rlD (T : Twn) (s : Nat) (A : Nat → Nat) (p q : Nat) : Nat → Nat := updN A q (min (A q) (A p + Ttk T s))
def rl2 (T : Twn) (s : Nat) (A : Nat → Nat) : Nat → Nat := rlD T s (rlD T s A (Tfr T s) (Tto T s)) (Tto T s) (Tfr T s)
def rlS (T : Twn) : Nat → Nat → (Nat → Nat) → Nat → Nat
  | 0, _, A => A
  | m+1, s, A => rlS T m (s+1) (rl2 T s A)
def rlR (T : Twn) : Nat → (Nat → Nat) → Nat → Nat
  | 0, A => A
  | k+1, A => rlR T k (rlS T (Tns T) 0 A)
theorem rlD_le (T : Twn) (s : Nat) (A : Nat → Nat) (p q x : Nat) : rlD T s A p q x ≤ A x := by
  unfold rlD updN
  split
  · rename_i e; subst e; omega
  · omega
theorem rlD_at (T : Twn) (s : Nat) (A : Nat → Nat) (p q : Nat) : rlD T s A p q q ≤ A p + Ttk T s := by
  unfold rlD updN
  rw [if_pos rfl]
  omega
theorem rl2_le (T : Twn) (s : Nat) (A : Nat → Nat) (x : Nat) : rl2 T s A x ≤ A x := Nat.le_trans (rlD_le _ _ _ _ _ _) (rlD_le _ _ _ _ _ _)
theorem rlS_le (T : Twn) : ∀ (m s : Nat) (A : Nat → Nat) (x : Nat), rlS T m s A x ≤ A x
  | 0, _, _, _ => Nat.le_refl _
  | m+1, s, A, x => Nat.le_trans (rlS_le T m (s+1) _ x) (rl2_le T s A x)
theorem rlS_at (T : Twn) : ∀ (m s : Nat) (A : Nat → Nat) (s0 : Nat), s ≤ s0 → s0 < s + m → rlS T m s A (Tto T s0) ≤ A (Tfr T s0) + Ttk T s0 ∧ rlS T m s A (Tfr T s0) ≤ A (Tto T s0) + Ttk T s0
  | 0, s, A, s0, h1, h2 => by omega
  | m+1, s, A, s0, h1, h2 => by
    by_cases e : s = s0
    · subst e
      have a1 := rlS_le T m (s+1) (rl2 T s A) (Tto T s)
      have a2 := rlS_le T m (s+1) (rl2 T s A) (Tfr T s)
      have b1 : rl2 T s A (Tto T s) ≤ A (Tfr T s) + Ttk T s := Nat.le_trans (rlD_le _ _ _ _ _ _) (rlD_at _ _ _ _ _)
      have b2 : rl2 T s A (Tfr T s) ≤ rlD T s A (Tfr T s) (Tto T s) (Tto T s) + Ttk T s := rlD_at _ _ _ _ _
      have b3 := rlD_le T s A (Tfr T s) (Tto T s) (Tto T s)
      show rlS T m (s+1) (rl2 T s A) (Tto T s) ≤ _ ∧ rlS T m (s+1) (rl2 T s A) (Tfr T s) ≤ _
      constructor <;> omega
    · have := rlS_at T m (s+1) (rl2 T s A) s0 (by omega) (by omega)
      have c1 := rl2_le T s A (Tfr T s0)
      have c2 := rl2_le T s A (Tto T s0)
      show rlS T m (s+1) (rl2 T s A) (Tto T s0) ≤ _ ∧ rlS T m (s+1) (rl2 T s A) (Tfr T s0) ≤ _
      constructor <;> omega
def LowD (T : Twn) (n : Nws) (src : Nat) (A : Nat → Nat) : Prop := ∀ q, q < Tnp T → SD T n src q ≤ A q ∧ A q ≤ NV
theorem LowD.d1 {T : Twn} {n : Nws} {src : Nat} {A : Nat → Nat} (hT : TOK T) (h : LowD T n src A) {s p q : Nat} (hE : Edge T 99 s p q) (hp : p < Tnp T) (hq : q < Tnp T) : LowD T n src (rlD T s A p q) := by
  intro x hx
  refine ⟨?_, Nat.le_trans (rlD_le _ _ _ _ _ _) (h x hx).2⟩
  by_cases e : x = q
  · subst e
    have e9 : rlD T s A p x x = min (A x) (A p + Ttk T s) := if_pos rfl
    rw [e9]
    by_cases hN : SD T n src p = NV
    · have h1 := (h p hp).1
      have h2 := (h x hx)
      have h3 := (SD_is T n src).2 x
      omega
    · have := SD_edge hT hE hp hx hN
      have h1 := (h p hp).1
      have h2 := (h x hx).1
      omega
  · have e9 : rlD T s A p q x = A x := if_neg e
    rw [e9]
    exact (h x hx).1
theorem LowD.d2 {T : Twn} {n : Nws} {src : Nat} {A : Nat → Nat} (hT : TOK T) (h : LowD T n src A) {s : Nat} (hs : s < Tns T) : LowD T n src (rl2 T s A) := by
  have h2 := hT.2.1 s hs
  have h12 := hT.1
  exact (h.d1 hT ⟨hs, by omega, Or.inl ⟨rfl, rfl⟩⟩ h2.1 h2.2.1).d1 hT ⟨hs, by omega, Or.inr ⟨rfl, rfl⟩⟩ h2.2.1 h2.1
theorem LowD.dS {T : Twn} {n : Nws} {src : Nat} (hT : TOK T) : ∀ (m s : Nat) (A : Nat → Nat), s + m ≤ Tns T → LowD T n src A → LowD T n src (rlS T m s A)
  | 0, _, _, _, h => h
  | m+1, s, A, hs, h => LowD.dS hT m (s+1) _ (by omega) (h.d2 hT (by omega))
def GoodD (T : Twn) (n : Nws) (src k : Nat) (A : Nat → Nat) : Prop := ∀ q, q < Tnp T → SD T n src q ≠ NV → cntN (Tnp T) (SD T n src) (SD T n src q) ≤ k → A q = SD T n src q
theorem GoodD.next {T : Twn} {n : Nws} {src k : Nat} {A : Nat → Nat} (hT : TOK T) (hsrc : src < Tnp T) (h : LowD T n src A) (hG : GoodD T n src k A) (h0 : A src = 0) : GoodD T n src (k+1) (rlS T (Tns T) 0 A) := by
  intro q hq hne hc
  have hL := LowD.dS hT (Tns T) 0 A (by omega) h q hq
  by_cases e : q = src
  · have := rlS_le T (Tns T) 0 A q
    rw [e, SD_src hsrc] at *
    omega
  · obtain ⟨s, p, -, b2, b3, b4, b5, b6⟩ := SD_back hT hq hne e
    have ht := (hT.2.1 s b2).2.2.2.1
    have hcp := cntN_lt (m := Tnp T) (A := SD T n src) (p := q) (q := p) b3 (by omega)
    have hA := hG p b3 b4 (by omega)
    have := rlS_at T (Tns T) 0 A s (Nat.zero_le _) (by omega)
    have hE := (other_np hT b2 b5).2.1.2.2
    rcases hE with ⟨rfl, rfl⟩ | ⟨rfl, rfl⟩ <;> omega
theorem rlR_done {T : Twn} {n : Nws} {src : Nat} (hT : TOK T) (hsrc : src < Tnp T) : ∀ (m k : Nat) (A : Nat → Nat), Tnp T ≤ k + m + 1 → LowD T n src A → GoodD T n src k A → A src = 0 → ∀ q, q < Tnp T → rlR T m A q = SD T n src q
  | 0, k, A, hm, hL, hG, h0, q, hq => by
    show A q = _
    by_cases e : SD T n src q = NV
    · have := hL q hq; omega
    · exact hG q hq e (by have := cntN_le (A := SD T n src) hq; omega)
  | m+1, k, A, hm, hL, hG, h0, q, hq => by
    refine rlR_done hT hsrc m (k+1) _ (by omega) (LowD.dS hT (Tns T) 0 A (by omega) hL) (hG.next hT hsrc hL h0) ?_ q hq
    have := rlS_le T (Tns T) 0 A src
    omega
theorem rlR_SD {T : Twn} {n : Nws} {src : Nat} (hT : TOK T) (hsrc : src < Tnp T) (m : Nat) (hm : Tnp T ≤ m + 1) : ∀ q, q < Tnp T → rlR T m (initA src 0) q = SD T n src q := by
  refine rlR_done hT hsrc m 0 _ (by omega) (fun q hq => ?_) (fun q hq hne hc => ?_) (initA_s src 0)
  · by_cases e : q = src
    · rw [e, initA_s, SD_src hsrc]; unfold NV; omega
    · rw [initA_n e]; exact ⟨(SD_is T n src).2 q, Nat.le_refl _⟩
  · by_cases e : q = src
    · rw [e, initA_s, SD_src hsrc]
    · obtain ⟨s, p, -, b2, b3, b4, b5, b6⟩ := SD_back hT hq hne e
      have ht := (hT.2.1 s b2).2.2.2.1
      have hcp := cntN_lt (m := Tnp T) (A := SD T n src) (p := q) (q := p) b3 (by omega)
      omega
theorem rlD_id {T : Twn} {s : Nat} {A : Nat → Nat} {p q : Nat} (h : A q ≤ A p + Ttk T s) : rlD T s A p q = A := by
  funext x
  unfold rlD updN
  split
  · rename_i e; subst e; omega
  · rfl
