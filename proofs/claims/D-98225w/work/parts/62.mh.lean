section MH
variable (G : CX) (g : GX) (l : Launch) (d : Nat) (σ : AS)
set_option maxHeartbeats 1000000 in
theorem c_improves (T : Twn) (n : Nws) (h : TN T n σ) (rs : List Ride) (hR : MRd rs σ) (A : Nat → Nat) (hA : MAr A σ) (x y z u w : Int32) (s p q b lp : Nat) (hx : x = nI s) (hy : y = nI p) (hz : z = nI q) (hu : u = nI b) (hw : w = nI lp - nI 1) (hs : s < Tns T) (hp : p < 9) (hq : q < 9) (hb : b ≤ 1000) (h2 : lp ≤ 900000) :
    MC G g l (d+10) mX6_improves [tM, iv x, iv y, iv z, iv u, iv w] σ (fun r t => r = some (iv (bI (decide (relaxH T n rs s b lp A p q ≠ NV)))) ∧ mS [43] [228, 229, 232] σ t ∧ MAr (relaxA T n rs s b lp A p q) t) := by
  subst hx; subst hy; subst hz; subst hu; subst hw
  have ht := (h.1.2.1 s hs).2.2.2.1
  have Ap := hA p hp
  have Aq := hA q hq
  have Ap9 := hA.le hp
  have Aq9 := hA.le hq
  have cp : (nI p).toNatClampNeg = p := clN (by omega)
  have cq : (nI q).toNatClampNeg = q := clN (by omega)
  refine MC1 tX6_improves [24] rfl okX6_improves rfl rfl rfl rfl (fun P hP => ?_)
  have v9 : ∀ k, k < 9 → vp_in (nI k) 9 := fun k hk => vinN hk (by decide)
  have key : A p ≠ NV → ∀ v : Int32, v = nI (min (A q) lp) - nI 1 → P 24 [some tM, some (iv (nI s)), some (iv (nI p)), some (iv (nI q)), some (iv (nI b)), some (iv (nI lp - nI 1)), none, none] [iv v] σ := by
    intro hne v hv
    subst hv
    have hH : relaxH T n rs s b lp A p q = tk1 T n rs s b (A p) (min (A q) lp) := by unfold relaxH; rw [if_neg hne]
    have Ap8 : A p ≤ 900000 := by rcases Ap.2 with e | e; exact absurd e hne; exact e
    refine hP _ _ _ _ (And.intro (v9 p hp) ?_)
    refine mcall (c_taken G g l d σ T n h rs hR _ _ _ _ s b (A p) (min (A q) lp) rfl rfl (by show gI σ 232 (nI p).toNatClampNeg = _; rw [cp, Ap.1]) rfl hs hb Ap8 (by omega)) (fun r9 s' h9 => ?_)
    obtain ⟨rfl, h9⟩ := h9
    rw [← hH]
    have h9' : mS [43] [228, 229, 232] σ s' := h9.mono rfl rfl
    by_cases hN : relaxH T n rs s b lp A p q = NV
    · refine And.intro (fun q9 => ?_) (fun q9 => ⟨nar0, ?_, h9', ?_⟩)
      · exact absurd (by rw [hN]; rfl) q9
      · rw [decide_eq_false (fun e => e hN)]; rfl
      · unfold relaxA; rw [if_pos hN]; exact hA.keep h9 rfl
    · obtain ⟨r1, r2, r3, r4, r5⟩ := relax_some (n := n) (rs := rs) (b := b) ht.1 h2 hN
      refine And.intro (fun q9 => ?_) (fun q9 => ?_)
      · refine mcall (c_takesOf G g l (d+8) s' T (h.2.2.1.keep h9 rfl) _ s rfl hs h.1) (fun r9 s2 h8 => ?_)
        obtain ⟨rfl, rfl⟩ := h8
        refine And.intro (v9 q hq) ⟨nar1, ?_, h9'.a rfl, ?_⟩
        · rw [decide_eq_true hN]; rfl
        · intro k hk
          show (if 232 = 232 ∧ k = (nI q).toNatClampNeg then nI (relaxH T n rs s b lp A p q) + nI (Ttk T s) else gI s2 232 k) = _ ∧ _
          unfold relaxA
          rw [if_neg hN, cq]
          unfold updN
          by_cases e : k = q
          · rw [if_pos ⟨rfl, e⟩, if_pos e, nI_add]
            exact ⟨rfl, Or.inr (by omega)⟩
          · rw [if_neg (fun q => e q.2), if_neg e]
            exact hA.keep h9 rfl k hk
      · have q9 : nI (relaxH T n rs s b lp A p q) = nI 1000000 := q9
        rw [nI_eq (by omega) (by omega)] at q9
        exact absurd q9 hN
  refine hP _ _ _ _ (And.intro (v9 p hp) (And.intro (fun q9 => And.intro (v9 q hq) (And.intro (fun q8 => ?_) (fun q8 => And.intro (v9 q hq) ?_))) (fun q9 => ⟨nar0, ?_, mS.rf, ?_⟩)))
  · have q9 : ¬ gI σ 232 (nI p).toNatClampNeg = nI 1000000 := q9
    rw [cp, Ap.1, nI_eq (by omega) (by omega)] at q9
    have q8 : nI lp - nI 1 ≤ gI σ 232 (nI q).toNatClampNeg - nI 1 := q8
    have q8 := Int32.not_lt.mpr q8
    rw [cq, Aq.1, lt_pred (by omega) (by omega)] at q8
    exact key q9 _ (by rw [Nat.min_eq_right (by omega)])
  · have q9 : ¬ gI σ 232 (nI p).toNatClampNeg = nI 1000000 := q9
    rw [cp, Ap.1, nI_eq (by omega) (by omega)] at q9
    have q8 : ¬ nI lp - nI 1 ≤ gI σ 232 (nI q).toNatClampNeg - nI 1 := q8
    have q8 := Int32.not_le.mp q8
    rw [cq, Aq.1, lt_pred (by omega) (by omega)] at q8
    exact key q9 (gI σ 232 (nI q).toNatClampNeg - nI 1) (by rw [cq, Aq.1, Nat.min_eq_left (by omega)])
  · have q9 : gI σ 232 (nI p).toNatClampNeg = nI 1000000 := q9
    rw [cp, Ap.1, nI_eq (by omega) (by omega)] at q9
    have q9 : A p = NV := q9
    rw [decide_eq_false (fun e => e (by unfold relaxH; rw [if_pos q9]))]; rfl
  · have q9 : gI σ 232 (nI p).toNatClampNeg = nI 1000000 := q9
    rw [cp, Ap.1, nI_eq (by omega) (by omega)] at q9
    have q9 : A p = NV := q9
    have e : relaxH T n rs s b lp A p q = NV := by unfold relaxH; rw [if_pos q9]
    unfold relaxA
    rw [if_pos e]
    exact hA
/-- what stands while arrivals spread -/
def Jar (T : Twn) (n : Nws) (rs : List Ride) (wo b lp src hr : Nat) (A : Nat → Nat) : Prop := (∀ q, q < 9 → A q ≠ NV → ∃ k, Ach T n rs wo b lp src hr k q (A q)) ∧ A src ≤ hr
theorem Jar.relax {T : Twn} {n : Nws} {rs : List Ride} {wo b lp src hr : Nat} {A : Nat → Nat} {s p q : Nat} (h : Jar T n rs wo b lp src hr A) (hE : Edge T wo s p q) (hp : p < 9) (hq : q < 9) (ht : 1 ≤ Ttk T s) (hlp : lp ≤ 900000) : Jar T n rs wo b lp src hr (relaxA T n rs s b lp A p q) := by
  by_cases hN : relaxH T n rs s b lp A p q = NV
  · unfold relaxA; rw [if_pos hN]; exact h
  · obtain ⟨r1, r2, r3, r4, r5⟩ := relax_some (n := n) (rs := rs) (b := b) ht hlp hN
    unfold relaxA
    rw [if_neg hN]
    refine ⟨fun k hk hk9 => ?_, ?_⟩
    · unfold updN at hk9 ⊢
      by_cases e : k = q
      · rw [if_pos e] at hk9 ⊢
        subst e
        obtain ⟨m, hm⟩ := h.1 p hp r1
        exact ⟨m + 1, s, p, A p, _, hm, hE, r2, r5, r4, rfl⟩
      · rw [if_neg e] at hk9 ⊢
        exact h.1 k hk hk9
    · unfold updN
      split
      · rename_i e
        subst e
        have := h.2
        omega
      · exact h.2
theorem relax_sum {T : Twn} {n : Nws} {rs : List Ride} {b lp : Nat} {A : Nat → Nat} {s p q : Nat} (hq : q < 9) (ht : 1 ≤ Ttk T s) (hlp : lp ≤ 900000) : sum9 (relaxA T n rs s b lp A p q) ≤ sum9 A ∧ (relaxH T n rs s b lp A p q ≠ NV → sum9 (relaxA T n rs s b lp A p q) < sum9 A) := by
  by_cases hN : relaxH T n rs s b lp A p q = NV
  · unfold relaxA; rw [if_pos hN]; exact ⟨Nat.le_refl _, fun h => absurd hN h⟩
  · obtain ⟨r1, r2, r3, r4, r5⟩ := relax_some (n := n) (rs := rs) (b := b) ht hlp hN
    unfold relaxA
    rw [if_neg hN]
    have := sum9_upd hq r3
    exact ⟨Nat.le_of_lt this, fun _ => this⟩
def initA (src hr : Nat) : Nat → Nat := fun p => if p = src then hr else NV
theorem initA_s (src hr : Nat) : initA src hr src = hr := if_pos rfl
theorem initA_n {src hr p : Nat} (h : p ≠ src) : initA src hr p = NV := if_neg h
theorem b01 (b : Bool) : (bI b = nI 0 ↔ b = false) := by cases b <;> decide
set_option maxHeartbeats 2000000 in
theorem c_spreads (T : Twn) (n : Nws) (h : TN T n σ) (rs : List Ride) (hR : MRd rs σ) (x y z u w : Int32) (src hr b lp wo : Nat) (hx : x = nI src) (hy : y = nI hr) (hz : z = nI b) (hu : u = nI lp - nI 1) (hw : ∀ s, s < 12 → (nI s = w ↔ s = wo)) (hs : src < 9) (h1 : hr ≤ 900000) (hb : b ≤ 1000) (h2 : lp ≤ 900000) :
    MC G g l (d+11) mX6_spreads [tM, iv x, iv y, iv z, iv u, iv w] σ (fun r t => r = none ∧ mS [43] [228, 229, 232] σ t ∧ ∃ A, MAr A t ∧ IsEA T n rs wo b lp src hr A) := by
  subst hx; subst hy; subst hz; subst hu
  have h12 := h.1.1
  have v9 : ∀ k, k < 9 → vp_in (nI k) 9 := fun k hk => vinN hk (by decide)
  refine MC1 tX6_spreads [2, 19, 25, 67, 69, 71] rfl okX6_spreads rfl rfl rfl rfl (fun P hP => ?_)
  have outer : ∀ (M : Nat) (A : Nat → Nat) (τ : AS) (x7 x8 x9 : Option AV), sum9 A ≤ M → mS [43] [228, 229, 232] σ τ → MAr A τ → Jar T n rs wo b lp src hr A →
      P 19 [some tM, some (iv (nI src)), some (iv (nI hr)), some (iv (nI b)), some (iv (nI lp - nI 1)), some (iv w), some (iv (nI 1)), x7, x8, x9] [] τ := by
    intro M
    induction M using Nat.strongRecOn with
    | ind M ihM =>
      intro A0 τ0 x7 x8 x9 hM hS0 hA0 hJ0
      -- one pass
      have inner : ∀ (m s : Nat) (A : Nat → Nat) (τ : AS) (more : Bool) (x8 x9 : Option AV), Tns T - s = m → s ≤ Tns T → sum9 A ≤ sum9 A0 → (more = true → sum9 A < sum9 A0) → (more = false → ∀ s', s' < s → s' ≠ wo → relaxH T n rs s' b lp A (Tfr T s') (Tto T s') = NV ∧ relaxH T n rs s' b lp A (Tto T s') (Tfr T s') = NV) → mS [43] [228, 229, 232] σ τ → MAr A τ → Jar T n rs wo b lp src hr A →
          P 25 [some tM, some (iv (nI src)), some (iv (nI hr)), some (iv (nI b)), some (iv (nI lp - nI 1)), some (iv w), some (iv (bI more)), some (iv (nI s)), x8, x9] [] τ := by
        intro m
        induction m with
        | zero =>
          intro s A τ more x8 x9 hm hs9 hle hlt hcl hS hA hJ
          have hse : s = Tns T := by omega
          refine hP _ _ _ _ ?_
          refine mcall (c_streetMany G g l (d+9) τ) (fun r9 s' h9 => ?_)
          obtain ⟨rfl, rfl⟩ := h9
          have e4 : gI s' 220 4 = nI (Tns T) := (h.2.2.1.keep hS rfl).2.1
          rw [e4]
          refine And.intro (fun _ => ?_) (fun q => absurd (nI_le (by omega) (by omega)) q)
          cases more with
          | true => exact ihM (sum9 A) (by have := hlt rfl; omega) A s' _ _ _ (Nat.le_refl _) hS hA hJ
          | false =>
            refine hP 19 _ _ _ (And.intro (fun _ => ⟨rfl, hS, A, hA, ?_⟩) (fun q => absurd rfl q))
            refine IsEA.of_closed h.1 h2 hJ.2 (by unfold NV; omega) (fun q hq => hJ.1 q (by omega)) (fun s hs9 hne => hcl rfl s (by omega) hne)
        | succ m ih =>
          intro s A τ more x8 x9 hm hs9 hle hlt hcl hS hA hJ
          have hsl : s < Tns T := by omega
          have hT2 := h.1.2.1 s hsl
          refine hP _ _ _ _ ?_
          refine mcall (c_streetMany G g l (d+9) τ) (fun r9 s' h9 => ?_)
          obtain ⟨rfl, rfl⟩ := h9
          have e4 : gI s' 220 4 = nI (Tns T) := (h.2.2.1.keep hS rfl).2.1
          rw [e4]
          refine And.intro (fun q => absurd q (nI_ge (by omega) (by omega))) (fun _ => ?_)
          have step : ∀ (A' : Nat → Nat) (τ' : AS) (more' : Bool) (x8 x9 : Option AV), sum9 A' ≤ sum9 A0 → (more' = true → sum9 A' < sum9 A0) → (more' = false → ∀ s', s' < s + 1 → s' ≠ wo → relaxH T n rs s' b lp A' (Tfr T s') (Tto T s') = NV ∧ relaxH T n rs s' b lp A' (Tto T s') (Tfr T s') = NV) → mS [43] [228, 229, 232] σ τ' → MAr A' τ' → Jar T n rs wo b lp src hr A' →
              P 71 [some tM, some (iv (nI src)), some (iv (nI hr)), some (iv (nI b)), some (iv (nI lp - nI 1)), some (iv w), some (iv (bI more')), some (iv (nI s)), x8, x9] [] τ' := by
            intro A' τ' more' x8 x9 a1 a2 a3 a4 a5 a6
            refine hP _ _ _ _ ?_
            show P 25 [some tM, some (iv (nI src)), some (iv (nI hr)), some (iv (nI b)), some (iv (nI lp - nI 1)), some (iv w), some (iv (bI more')), some (iv (nI s + nI 1)), x8, x9] [] τ'
            rw [nI_add]
            exact ih (s+1) A' τ' more' x8 x9 (by omega) (by omega) a1 a2 a3 a4 a5 a6
          refine And.intro (fun q => ?_) (fun q => ?_)
          · have hne : s ≠ wo := fun e => q ((hw s (by omega)).mpr e)
            have t1 := h.2.2.1.keep hS rfl
            have f0 : gI s' 222 (60 + 5 * s + 0) = nI (Tfr T s) := (t1.2.2.2.1 s hsl).1
            have f1 : gI s' 222 (60 + 5 * s + 1) = nI (Tto T s) := (t1.2.2.2.1 s hsl).2.1
            refine mcall (c_endOf G g l (d+9) s' _ _ s 0 rfl rfl (by omega) (by omega)) (fun r9 s1 h9 => ?_)
            obtain ⟨rfl, rfl⟩ := h9
            refine mcall (c_endOf G g l (d+9) s1 _ _ s 1 rfl rfl (by omega) (by omega)) (fun r9 s2 h9 => ?_)
            obtain ⟨rfl, rfl⟩ := h9
            refine mcall (c_improves G g l d s2 T n (h.keep hS rfl rfl) rs (hR.keep hS rfl rfl) A hA _ _ _ _ _ s (Tfr T s) (Tto T s) b lp rfl f0 f1 rfl rfl hsl (by omega) (by omega) hb h2) (fun r9 s3 h9 => ?_)
            obtain ⟨rfl, S3, A3⟩ := h9
            have S3 := hS.tr S3
            have J3 := hJ.relax (s := s) (p := Tfr T s) (q := Tto T s) ⟨hsl, hne, Or.inl ⟨rfl, rfl⟩⟩ (by omega) (by omega) hT2.2.2.2.1.1 h2
            have m3 := relax_sum (T := T) (n := n) (rs := rs) (b := b) (lp := lp) (A := A) (s := s) (p := Tfr T s) (q := Tto T s) (by omega) hT2.2.2.2.1.1 h2
            have t3 := h.2.2.1.keep S3 rfl
            have g0 : gI s3 222 (60 + 5 * s + 0) = nI (Tfr T s) := (t3.2.2.2.1 s hsl).1
            have g1 : gI s3 222 (60 + 5 * s + 1) = nI (Tto T s) := (t3.2.2.2.1 s hsl).2.1
            refine mcall (c_endOf G g l (d+9) s3 _ _ s 1 rfl rfl (by omega) (by omega)) (fun r9 s4 h9 => ?_)
            obtain ⟨rfl, rfl⟩ := h9
            refine mcall (c_endOf G g l (d+9) s4 _ _ s 0 rfl rfl (by omega) (by omega)) (fun r9 s5 h9 => ?_)
            obtain ⟨rfl, rfl⟩ := h9
            refine mcall (c_improves G g l d s5 T n (h.keep S3 rfl rfl) rs (hR.keep S3 rfl rfl) _ A3 _ _ _ _ _ s (Tto T s) (Tfr T s) b lp rfl g1 g0 rfl rfl hsl (by omega) (by omega) hb h2) (fun r9 s6 h9 => ?_)
            obtain ⟨rfl, S6, A6⟩ := h9
            have S6 := S3.tr S6
            have J6 := J3.relax (s := s) (p := Tto T s) (q := Tfr T s) ⟨hsl, hne, Or.inr ⟨rfl, rfl⟩⟩ (by omega) (by omega) hT2.2.2.2.1.1 h2
            have m6 := relax_sum (T := T) (n := n) (rs := rs) (b := b) (lp := lp) (A := relaxA T n rs s b lp A (Tfr T s) (Tto T s)) (s := s) (p := Tto T s) (q := Tfr T s) (by omega) hT2.2.2.2.1.1 h2
            have yes : (more = true ∨ relaxH T n rs s b lp A (Tfr T s) (Tto T s) ≠ NV ∨ relaxH T n rs s b lp (relaxA T n rs s b lp A (Tfr T s) (Tto T s)) (Tto T s) (Tfr T s) ≠ NV) → ∀ x8 x9, P 67 [some tM, some (iv (nI src)), some (iv (nI hr)), some (iv (nI b)), some (iv (nI lp - nI 1)), some (iv w), some (iv (bI more)), some (iv (nI s)), x8, x9] [] s6 := by
              intro hy x8 x9
              refine hP _ _ _ _ ?_
              refine step _ s6 true x8 x9 (by omega) (fun _ => ?_) (fun q => by cases q) S6 A6 J6
              rcases hy with e | e | e
              · have := hlt e; omega
              · have := m3.2 e; omega
              · have := m6.2 e; omega
            by_cases c1 : more = false
            · by_cases c2 : relaxH T n rs s b lp A (Tfr T s) (Tto T s) = NV
              · by_cases c3 : relaxH T n rs s b lp (relaxA T n rs s b lp A (Tfr T s) (Tto T s)) (Tto T s) (Tfr T s) = NV
                · subst c1
                  have e8 : decide (relaxH T n rs s b lp A (Tfr T s) (Tto T s) ≠ NV) = false := decide_eq_false (fun e => e c2)
                  have e9 : decide (relaxH T n rs s b lp (relaxA T n rs s b lp A (Tfr T s) (Tto T s)) (Tto T s) (Tfr T s) ≠ NV) = false := decide_eq_false (fun e => e c3)
                  rw [e8, e9]
                  refine And.intro (fun q => absurd rfl q) (fun _ => And.intro (fun q => absurd rfl q) (fun _ => And.intro (fun _ => ?_) (fun q => absurd rfl q)))
                  have eA : relaxA T n rs s b lp A (Tfr T s) (Tto T s) = A := by unfold relaxA; rw [if_pos c2]
                  rw [eA] at c3 A6 J6 m6
                  have eB : relaxA T n rs s b lp A (Tto T s) (Tfr T s) = A := by unfold relaxA; rw [if_pos c3]
                  rw [eB] at A6 J6 m6
                  refine hP _ _ _ _ ?_
                  refine step A s6 false _ _ hle (fun q => by cases q) (fun _ s' hs' hne' => ?_) S6 A6 J6
                  by_cases e : s' = s
                  · subst e; exact ⟨c2, c3⟩
                  · exact hcl rfl s' (by omega) hne'
                · refine And.intro (fun q => yes (Or.inr (Or.inr c3)) _ _) (fun _ => And.intro (fun q => yes (Or.inr (Or.inr c3)) _ _) (fun _ => And.intro (fun q => ?_) (fun q => yes (Or.inr (Or.inr c3)) _ _)))
                  exact absurd ((b01 _).mp q) (by rw [decide_eq_true c3]; decide)
              · refine And.intro (fun q => yes (Or.inr (Or.inl c2)) _ _) (fun _ => And.intro (fun q => yes (Or.inr (Or.inl c2)) _ _) (fun q => ?_))
                exact absurd ((b01 _).mp q) (by rw [decide_eq_true c2]; decide)
            · have c1 : more = true := by cases more; exact absurd rfl c1; rfl
              refine And.intro (fun q => yes (Or.inl c1) _ _) (fun q => ?_)
              exact absurd ((b01 _).mp q) (by rw [c1]; decide)
          · have he : s = wo := (hw s (by omega)).mp q
            exact step A s' more x8 x9 hle hlt (fun e s9 hs9 hne => hcl e s9 (by omega) hne) hS hA hJ
      refine hP _ _ _ _ (And.intro (fun q => absurd q (by decide)) (fun _ => ?_))
      exact inner (Tns T) 0 A0 τ0 false x8 x9 rfl (Nat.zero_le _) (Nat.le_refl _) (fun q => by cases q) (fun _ s' q => absurd q (Nat.not_lt_zero _)) hS0 hA0 hJ0
  have init : ∀ (m k : Nat) (τ : AS), 9 - k = m → k ≤ 9 → mS [43] [228, 229, 232] σ τ → (∀ p, p < k → gI τ 232 p = nI 1000000) → P 2 [some tM, some (iv (nI src)), some (iv (nI hr)), some (iv (nI b)), some (iv (nI lp - nI 1)), some (iv w), some (iv (nI k)), none, none, none] [] τ := by
    intro m
    induction m with
    | zero =>
      intro k τ hm hk hS hall
      have hk9 : k = 9 := by omega
      refine hP _ _ _ _ (And.intro (fun _ => And.intro (v9 src hs) ?_) (fun q => absurd (nI_le (by omega) (by omega)) q))
      have cs : (nI src).toNatClampNeg = src := clN (by omega)
      refine outer (sum9 (initA src hr)) (initA src hr) _ none none none (Nat.le_refl _) (hS.a rfl) ?_ ?_
      · intro p hp
        show (if 232 = 232 ∧ p = (nI src).toNatClampNeg then nI hr else gI τ 232 p) = _ ∧ _
        rw [cs]
        by_cases e : p = src
        · rw [if_pos ⟨rfl, e⟩, e, initA_s]; exact ⟨rfl, Or.inr h1⟩
        · rw [if_neg (fun q => e q.2), initA_n e, hall p (by omega)]; exact ⟨rfl, Or.inl rfl⟩
      · refine ⟨fun q hq hne => ⟨0, ?_, ?_⟩, by rw [initA_s]; exact Nat.le_refl _⟩
        · by_cases e : q = src
          · exact e
          · rw [initA_n e] at hne; exact absurd rfl hne
        · by_cases e : q = src
          · rw [e, initA_s]
          · rw [initA_n e] at hne; exact absurd rfl hne
    | succ m ih =>
      intro k τ hm hk hS hall
      refine hP _ _ _ _ (And.intro (fun q => absurd q (nI_ge (by omega) (by omega))) (fun _ => And.intro (v9 k (by omega)) ?_))
      show P 2 [some tM, some (iv (nI src)), some (iv (nI hr)), some (iv (nI b)), some (iv (nI lp - nI 1)), some (iv w), some (iv (nI k + nI 1)), none, none, none] [] (sI τ 232 (nI k).toNatClampNeg (nI 1000000))
      rw [nI_add, clN (by omega)]
      refine ih (k+1) _ (by omega) (by omega) (hS.a rfl) (fun p hp => ?_)
      rw [gI_sI]
      by_cases e : p = k
      · rw [if_pos ⟨rfl, e⟩]
      · rw [if_neg (fun q => e q.2)]; exact hall p (by omega)
  refine hP _ _ _ _ ?_
  exact init 9 0 σ rfl (Nat.zero_le _) mS.rf (fun p hp => absurd hp (Nat.not_lt_zero _))
end MH
