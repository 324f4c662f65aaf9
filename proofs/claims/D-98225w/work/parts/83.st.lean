section ST_
variable (G : CX) (g : GX) (l : Launch) (d : Nat) (σ : AS)
/-- the reference's array of hours of streets together -/
def MDi (A : Nat → Nat) (σ : AS) : Prop := ∀ p, p < 9 → gI σ 235 p = nI (A p) ∧ A p ≤ 1000000
def MLo (T : Twn) (A : Nat → Nat) (σ : AS) : Prop := ∀ p, p < Tnp T → gI σ 235 p = nI (A p)
theorem MLo.keep {fs ids : List Nat} {T : Twn} {A : Nat → Nat} {σ s : AS} (h : MLo T A σ) (hS : mS fs ids σ s) (h1 : ids.contains 235 = false) : MLo T A s := fun p hp => by
  rw [hS.ia 235 h1 rfl]
  exact h p hp
theorem MDi.set {T : Twn} {A : Nat → Nat} {σ : AS} (h : MDi A σ) {s p q : Nat} {v : Int32} (hq : q < 9) (hv : v = nI (A p + Ttk T s)) (hlt : A p + Ttk T s < A q) : MDi (rlD T s A p q) (sI σ 235 q v) := by
  subst hv
  intro x hx
  have := (h q hq).2
  rw [gI_sI]
  by_cases e : x = q
  · subst e
    have e9 : rlD T s A p x x = A p + Ttk T s := by unfold rlD updN; rw [if_pos rfl]; omega
    rw [if_pos ⟨rfl, rfl⟩, e9]
    exact ⟨rfl, by omega⟩
  · have e9 : rlD T s A p q x = A x := if_neg e
    rw [if_neg (fun q => e q.2), e9]
    exact h x hx
set_option maxHeartbeats 2000000 in
theorem c_measures (T : Twn) (n : Nws) (h : TN T n σ) (x : Int32) (src : Nat) (hx : x = nI src) (hs : src < Tnp T) :
    MC G g l (d+2) mX6_measures [tM, iv x] σ (fun r t => r = none ∧ mS [] [235] σ t ∧ MLo T (SD T n src) t) := by
  subst hx
  have h12 := h.1.1
  have v9 : ∀ k, k < 9 → vp_in (nI k) 9 := fun k hk => vinN hk (by decide)
  refine MC1 tX6_measures [2, 19, 24, 63, 88] rfl okX6_measures rfl rfl rfl rfl (fun P hP => ?_)
  have outer : ∀ (j k : Nat) (A : Nat → Nat) (τ : AS) (x3 x4 x5 : Option AV), k + j = 9 → mS [] [235] σ τ → MDi A τ → rlR T j A = rlR T 9 (initA src 0) → P 19 [some tM, some (iv (nI src)), some (iv (nI k)), x3, x4, x5] [] τ := by
    intro j
    induction j with
    | zero =>
      intro k A τ x3 x4 x5 hk hS hA he
      refine hP _ _ _ _ (And.intro (fun _ => ⟨rfl, hS, fun p hp => ?_⟩) (fun q => absurd (nI_le (by omega) (by omega)) q))
      rw [(hA p (by omega)).1, ← rlR_SD (n := n) h.1 hs 9 (by omega) p hp, ← he]
      rfl
    | succ j ihj =>
      intro k A0 τ0 x3 x4 x5 hk hS0 hA0 he0
      have inner : ∀ (m s : Nat) (A : Nat → Nat) (τ : AS) (x4 x5 : Option AV), s + m = Tns T → mS [] [235] σ τ → MDi A τ → rlR T j (rlS T m s A) = rlR T 9 (initA src 0) → P 24 [some tM, some (iv (nI src)), some (iv (nI k)), some (iv (nI s)), x4, x5] [] τ := by
        intro m
        induction m with
        | zero =>
          intro s A τ x4 x5 hm hS hA he
          refine hP _ _ _ _ ?_
          refine mcall (c_streetMany G g l d τ) (fun r9 s' h9 => ?_)
          obtain ⟨rfl, rfl⟩ := h9
          have e4 : gI s' 220 4 = nI (Tns T) := (h.2.2.1.keep hS rfl).2.1
          rw [e4]
          refine And.intro (fun _ => ?_) (fun q => absurd (nI_le (by omega) (by omega)) q)
          show P 19 [some tM, some (iv (nI src)), some (iv (nI k + nI 1)), some (iv (nI s)), x4, x5] [] s'
          rw [nI_add]
          exact ihj (k+1) A s' _ _ _ (by omega) hS hA he
        | succ m ih =>
          intro s A τ x4 x5 hm hS hA he
          have hsl : s < Tns T := by omega
          have hT2 := h.1.2.1 s hsl
          have c0 : (nI (Tfr T s)).toNatClampNeg = Tfr T s := clN (by omega)
          have c1 : (nI (Tto T s)).toNatClampNeg = Tto T s := clN (by omega)
          have va : vp_in (nI (Tfr T s)) 9 := v9 _ (by omega)
          have vb : vp_in (nI (Tto T s)) 9 := v9 _ (by omega)
          have at88 : ∀ (A' : Nat → Nat) (τ' : AS), mS [] [235] σ τ' → MDi A' τ' → rlR T j (rlS T m (s+1) A') = rlR T 9 (initA src 0) → P 88 [some tM, some (iv (nI src)), some (iv (nI k)), some (iv (nI s)), some (iv (nI (Tfr T s))), some (iv (nI (Tto T s)))] [] τ' := by
            intro A' τ' a1 a2 a3
            refine hP _ _ _ _ ?_
            show P 24 [some tM, some (iv (nI src)), some (iv (nI k)), some (iv (nI s + nI 1)), some (iv (nI (Tfr T s))), some (iv (nI (Tto T s)))] [] τ'
            rw [nI_add]
            exact ih (s+1) A' τ' _ _ (by omega) a1 a2 a3
          have at63 : ∀ (A' : Nat → Nat) (τ' : AS), mS [] [235] σ τ' → MDi A' τ' → rlR T j (rlS T m (s+1) (rlD T s A' (Tto T s) (Tfr T s))) = rlR T 9 (initA src 0) → P 63 [some tM, some (iv (nI src)), some (iv (nI k)), some (iv (nI s)), some (iv (nI (Tfr T s))), some (iv (nI (Tto T s)))] [] τ' := by
            intro A' τ' a1 a2 a3
            have Aa := a2 (Tfr T s) (by omega)
            have Ab := a2 (Tto T s) (by omega)
            refine hP _ _ _ _ (And.intro vb ?_)
            refine mcall (c_takesOf G g l d τ' T (h.2.2.1.keep a1 rfl) _ s rfl hsl h.1) (fun r9 s' h9 => ?_)
            obtain ⟨rfl, rfl⟩ := h9
            have ga : gI s' 235 (nI (Tfr T s)).toNatClampNeg = nI (A' (Tfr T s)) := by rw [c0, Aa.1]
            have gb : gI s' 235 (nI (Tto T s)).toNatClampNeg = nI (A' (Tto T s)) := by rw [c1, Ab.1]
            refine And.intro va (And.intro (fun q => ?_) (fun q => And.intro vb ?_))
            · have q0 : gI s' 235 (nI (Tfr T s)).toNatClampNeg ≤ gI s' 235 (nI (Tto T s)).toNatClampNeg + nI (Ttk T s) := q
              rw [ga, gb, nI_add, nI_leI (by omega) (by omega)] at q0
              rw [rlD_id q0] at a3
              exact at88 A' s' a1 a2 a3
            · have q0 : ¬ gI s' 235 (nI (Tfr T s)).toNatClampNeg ≤ gI s' 235 (nI (Tto T s)).toNatClampNeg + nI (Ttk T s) := q
              rw [ga, gb, nI_add, nI_leI (by omega) (by omega)] at q0
              refine mcall (c_takesOf G g l d s' T (h.2.2.1.keep a1 rfl) _ s rfl hsl h.1) (fun r9 s' h9 => ?_)
              obtain ⟨rfl, rfl⟩ := h9
              refine And.intro va ?_
              refine at88 _ (sI s' 235 (nI (Tfr T s)).toNatClampNeg (gI s' 235 (nI (Tto T s)).toNatClampNeg + nI (Ttk T s))) (a1.a rfl) ?_ a3
              rw [c0]
              exact a2.set (by omega) (by rw [gb, nI_add]) (by omega)
          refine hP _ _ _ _ ?_
          refine mcall (c_streetMany G g l d τ) (fun r9 s' h9 => ?_)
          obtain ⟨rfl, rfl⟩ := h9
          have t1 := h.2.2.1.keep hS rfl
          rw [t1.2.1]
          refine And.intro (fun q => absurd q (nI_ge (by omega) (by omega))) (fun _ => ?_)
          have f0 : gI s' 222 (60 + 5 * s + 0) = nI (Tfr T s) := (t1.2.2.2.1 s hsl).1
          have f1 : gI s' 222 (60 + 5 * s + 1) = nI (Tto T s) := (t1.2.2.2.1 s hsl).2.1
          refine mcall (c_endOf G g l d s' _ _ s 0 rfl rfl (by omega) (by omega)) (fun r9 s1 h9 => ?_)
          obtain ⟨rfl, rfl⟩ := h9
          refine mcall (c_endOf G g l d s1 _ _ s 1 rfl rfl (by omega) (by omega)) (fun r9 s2 h9 => ?_)
          obtain ⟨rfl, rfl⟩ := h9
          rw [f0, f1]
          have Aa := hA (Tfr T s) (by omega)
          have Ab := hA (Tto T s) (by omega)
          refine And.intro va ?_
          refine mcall (c_takesOf G g l d s2 T t1 _ s rfl hsl h.1) (fun r9 s' h9 => ?_)
          obtain ⟨rfl, rfl⟩ := h9
          have ga : gI s' 235 (nI (Tfr T s)).toNatClampNeg = nI (A (Tfr T s)) := by rw [c0, Aa.1]
          have gb : gI s' 235 (nI (Tto T s)).toNatClampNeg = nI (A (Tto T s)) := by rw [c1, Ab.1]
          refine And.intro vb (And.intro (fun q => ?_) (fun q => And.intro va ?_))
          · have q0 : gI s' 235 (nI (Tto T s)).toNatClampNeg ≤ gI s' 235 (nI (Tfr T s)).toNatClampNeg + nI (Ttk T s) := q
            rw [ga, gb, nI_add, nI_leI (by omega) (by omega)] at q0
            refine at63 A s' hS hA ?_
            have e9 : rlS T (m+1) s A = rlS T m (s+1) (rlD T s A (Tto T s) (Tfr T s)) := by
              show rlS T m (s+1) (rlD T s (rlD T s A (Tfr T s) (Tto T s)) (Tto T s) (Tfr T s)) = _
              rw [rlD_id q0]
            rw [← e9]
            exact he
          · have q0 : ¬ gI s' 235 (nI (Tto T s)).toNatClampNeg ≤ gI s' 235 (nI (Tfr T s)).toNatClampNeg + nI (Ttk T s) := q
            rw [ga, gb, nI_add, nI_leI (by omega) (by omega)] at q0
            refine mcall (c_takesOf G g l d s' T t1 _ s rfl hsl h.1) (fun r9 s' h9 => ?_)
            obtain ⟨rfl, rfl⟩ := h9
            refine And.intro vb ?_
            refine at63 (rlD T s A (Tfr T s) (Tto T s)) (sI s' 235 (nI (Tto T s)).toNatClampNeg (gI s' 235 (nI (Tfr T s)).toNatClampNeg + nI (Ttk T s))) (hS.a rfl) ?_ he
            rw [c1]
            exact hA.set (by omega) (by rw [ga, nI_add]) (by omega)
      refine hP _ _ _ _ (And.intro (fun q => absurd q (nI_ge (by omega) (by omega))) (fun _ => ?_))
      exact inner (Tns T) 0 A0 τ0 x4 x5 (by omega) hS0 hA0 he0
  have init : ∀ (m k : Nat) (τ : AS), k + m = 9 → mS [] [235] σ τ → (∀ p, p < k → gI τ 235 p = nI 1000000) → P 2 [some tM, some (iv (nI src)), some (iv (nI k)), none, none, none] [] τ := by
    intro m
    induction m with
    | zero =>
      intro k τ hm hS hall
      refine hP _ _ _ _ (And.intro (fun _ => And.intro (v9 src (by omega)) ?_) (fun q => absurd (nI_le (by omega) (by omega)) q))
      have cs : (nI src).toNatClampNeg = src := clN (by omega)
      refine outer 9 0 (initA src 0) _ none none none rfl (hS.a rfl) ?_ rfl
      intro p hp
      show (if 235 = 235 ∧ p = (nI src).toNatClampNeg then nI 0 else gI τ 235 p) = _ ∧ _
      rw [cs]
      by_cases e : p = src
      · rw [if_pos ⟨rfl, e⟩, e, initA_s]; exact ⟨rfl, by omega⟩
      · rw [if_neg (fun q => e q.2), initA_n e, hall p (by omega)]; exact ⟨rfl, by unfold NV; omega⟩
    | succ m ih =>
      intro k τ hm hS hall
      refine hP _ _ _ _ (And.intro (fun q => absurd q (nI_ge (by omega) (by omega))) (fun _ => And.intro (v9 k (by omega)) ?_))
      show P 2 [some tM, some (iv (nI src)), some (iv (nI k + nI 1)), none, none, none] [] (sI τ 235 (nI k).toNatClampNeg (nI 1000000))
      rw [nI_add, clN (by omega)]
      refine ih (k+1) _ (by omega) (hS.a rfl) (fun p hp => ?_)
      rw [gI_sI]
      by_cases e : p = k
      · rw [if_pos ⟨rfl, e⟩]
      · rw [if_neg (fun q => e q.2)]; exact hall p (by omega)
  refine hP _ _ _ _ ?_
  exact init 9 0 σ rfl mS.rf (fun p hp => absurd hp (Nat.not_lt_zero _))
theorem nI_ne_m1 {q : Nat} (h : q < 1000000) : ¬ nI q = - nI 1 := by
  intro e
  have := congrArg Int32.toInt e
  rw [nI_toInt (by omega)] at this
  have e1 : (-nI 1).toInt = -1 := by decide
  rw [e1] at this
  omega
theorem c_shortBack (T : Twn) (n : Nws) (h : TN T n σ) (src : Nat) (hM : MLo T (SD T n src) σ) (x : Int32) (p : Nat) (hx : x = nI p) (hp : p < Tnp T) (hne : SD T n src p ≠ NV) (v : Nat × Nat × Nat) (hv : back1 T n [] 99 0 (SD T n src) p = some v) :
    MC G g l (d+3) mX6_shortBack [tM, iv x] σ (fun r t => r = some (iv (nI v.1)) ∧ t = σ) := by
  subst hx
  have h12 := h.1.1
  have hl := SD_36 h.1 hp hne
  refine MC1 tX6_shortBack [2, 24] rfl okX6_shortBack rfl rfl rfl rfl (fun P hP => ?_)
  have key : ∀ (m s : Nat), s + m = Tns T → backF T n [] 99 0 (SD T n src) p m s = some v → P 2 [some tM, some (iv (nI p)), some (iv (nI s))] [] σ := by
    intro m
    induction m with
    | zero => intro s hm hb; simp [backF] at hb
    | succ m ih =>
      intro s hm hb
      have hsl : s < Tns T := by omega
      have ht := (h.1.2.1 s hsl).2.2.2.1
      have next : (∀ q, otherF T s p = some q → ¬ backOK T n [] 99 0 (SD T n src) p s q) → P 24 [some tM, some (iv (nI p)), some (iv (nI s))] [] σ := by
        intro a3
        rw [backF_none a3] at hb
        refine hP _ _ _ _ ?_
        show P 2 [some tM, some (iv (nI p)), some (iv (nI s + nI 1))] [] σ
        rw [nI_add]
        exact ih (s+1) (by omega) hb
      refine hP _ _ _ _ ?_
      refine mcall (c_other G g l d σ T h.2.2.1 h.1 _ _ s p rfl rfl hsl (by omega)) (fun r s' h9 => ?_)
      obtain ⟨rfl, rfl⟩ := h9
      cases ho : otherF T s p with
      | none => exact And.intro (fun _ => next (fun q hq => by rw [ho] at hq; cases hq)) (fun q => absurd rfl q)
      | some q =>
        have hq := (other_np h.1 hsl ho).1
        have hq9 := (SD_is T n src).2 q
        unfold NV at hq9
        refine And.intro (fun e => absurd e (nI_ne_m1 (by omega))) (fun _ => ?_)
        refine mcall (c_other G g l d s' T h.2.2.1 h.1 _ _ s p rfl rfl hsl (by omega)) (fun r s' h9 => ?_)
        obtain ⟨rfl, rfl⟩ := h9
        rw [ho]
        have gq : gI s' 235 (nI q).toNatClampNeg = nI (SD T n src q) := by rw [clN (by omega), hM q hq]
        have gp : gI s' 235 (nI p).toNatClampNeg = nI (SD T n src p) := by rw [clN (by omega), hM p hp]
        refine And.intro (show vp_in (nI q) 9 from vinN (by omega) (by decide)) ?_
        refine mcall (c_takesOf G g l (d+1) s' T h.2.2.1 _ s rfl hsl h.1) (fun r s' h9 => ?_)
        obtain ⟨rfl, rfl⟩ := h9
        refine And.intro (show vp_in (nI p) 9 from vinN (by omega) (by decide)) (And.intro (fun e => ?_) (fun e => ?_))
        · have e0 : gI s' 235 (nI q).toNatClampNeg + nI (Ttk T s) = gI s' 235 (nI p).toNatClampNeg := e
          rw [gq, gp, nI_add, nI_eq (by omega) (by omega)] at e0
          rw [backF_some ho ((SD_ok h.1 hsl (by omega) ((SD_is T n src).2 q)).mpr e0)] at hb
          cases hb
          exact ⟨rfl, rfl⟩
        · have e0 : ¬ gI s' 235 (nI q).toNatClampNeg + nI (Ttk T s) = gI s' 235 (nI p).toNatClampNeg := e
          rw [gq, gp, nI_add, nI_eq (by omega) (by omega)] at e0
          exact next (fun q' hq' hbo => by rw [ho] at hq'; cases hq'; exact e0 ((SD_ok h.1 hsl (by omega) ((SD_is T n src).2 q)).mp hbo))
  refine hP _ _ _ _ ?_
  exact key (Tns T) 0 (by omega) hv
/-- the first hour in which a street is too narrow for who is in it -/
def narF (T : Twn) (n : Nws) (s b h : Nat) : Option Nat := firstF (fun k => decide (wid T s (Nsh n s) k < b)) (Ttk T s) h
def orS (o : Option Nat) (s : Nat) (a : Option (Nat × Nat)) : Option (Nat × Nat) := match o with
  | some h => some (h, s)
  | none => a
def stuckL (T : Twn) (n : Nws) (b set : Nat) : List (Nat × Nat) → Option (Nat × Nat) → Option (Nat × Nat)
  | [], o => o
  | x :: r, o => stuckL T n b set r (orS (narF T n x.1 b (set + x.2)) x.1 o)
def fstI (o : Option (Nat × Nat)) : Int32 := match o with
  | some x => nI x.1
  | none => - nI 1
def sndI (o : Option (Nat × Nat)) : Int32 := match o with
  | some x => nI x.2
  | none => - nI 1
noncomputable def wayD (T : Twn) (n : Nws) (w : Nat) : List (Nat × Nat) := wayF T n [] 99 0 (SD T n (Nat_ n w)) (Nat_ n w) 9 (Nto n w)
def okStk (T : Twn) (n : Nws) (a b : Int32) : Prop := inR a (Tnw T) = true ∧ btw b 0 1 = true ∧ SD T n (Nat_ n a.toNatClampNeg) (Nto n a.toNatClampNeg) ≠ NV
noncomputable def stkF (T : Twn) (n : Nws) (w : Nat) : Option (Nat × Nat) := stuckL T n (Tbr T w) (Nset n w) (wayD T n w) none
noncomputable def q_stuck (T : Twn) (n : Nws) (a b : Int32) : Int32 := @ite _ (okStk T n a b) (Classical.propDecidable _) (if b = nI 0 then fstI (stkF T n a.toNatClampNeg) else sndI (stkF T n a.toNatClampNeg)) (- nI 1)
set_option maxHeartbeats 2000000 in
theorem c_stuck (T : Twn) (n : Nws) (h : TN T n σ) (a b : Int32) : MC G g l (d+6) mX6_stuck [tM, iv a, iv b] σ (fun r t => r = some (iv (q_stuck T n a b)) ∧ mS [43] [228, 229, 235] σ t) := by
  have h12 := h.1.1
  have hh := h.2.1.1
  refine MC1 tX6_stuck [10, 33, 53, 79, 89] rfl okX6_stuck rfl rfl rfl rfl (fun P hP => ?_)
  have no : ∀ τ, mS [43] [228, 229, 235] σ τ → ¬ okStk T n a b → P 10 [some tM, some (iv a), some (iv b), none, none, none, none, none, none, none] [] τ := by
    intro τ hS e
    exact hP _ _ _ _ ⟨by unfold q_stuck; rw [if_neg e], hS⟩
  refine hP _ _ _ _ ?_
  refine mcall (c_isWalker G g l (d+3) σ T a h.2.2.1 h.1) (fun r s' h9 => ?_)
  obtain ⟨rfl, rfl⟩ := h9
  cases ha : inR a (Tnw T) with
  | false => exact And.intro (fun _ => no _ mS.rf (fun e => by have e1 := e.1; rw [ha] at e1; cases e1)) (fun q => absurd rfl q)
  | true =>
    refine And.intro (fun q => absurd q (by decide)) (fun _ => ?_)
    refine mcall (c_isIn G g l (d+4) _ _ _ _) (fun r s' h9 => ?_)
    obtain ⟨rfl, rfl⟩ := h9
    rw [btw_long (a := 0) (b := 1) (by decide) (by decide)]
    cases hb : btw b 0 1 with
    | false => exact And.intro (fun q => absurd rfl q) (fun _ => no _ mS.rf (fun e => by have e1 := e.2.1; rw [hb] at e1; cases e1))
    | true =>
      refine And.intro (fun _ => ?_) (fun q => absurd q (by decide))
      obtain ⟨w, hw, rfl⟩ := inR_of ha (by omega)
      have cw : (nI w).toNatClampNeg = w := clN (by omega)
      have hat := at_np h.1 h.2.1 hw
      have hbr := (h.1.2.2 w hw).1
      have hse := Nset_le h.2.1 hw
      refine mcall (c_placeOf G g l (d+4) _ T n h.2.2.2 _ w rfl hw h.1) (fun r s' h9 => ?_)
      obtain ⟨rfl, rfl⟩ := h9
      refine mcall (c_measures G g l (d+3) _ T n h _ (Nat_ n w) rfl hat.1) (fun r s1 h9 => ?_)
      obtain ⟨rfl, S1, M1⟩ := h9
      refine mcall (c_goalOf G g l (d+4) _ T n (h.2.2.2.keep S1 rfl) _ w rfl hw h.1) (fun r s1' h9 => ?_)
      obtain ⟨rfl, rfl⟩ := h9
      have S1' : mS [43] [228, 229, 235] s' s1' := S1.mono rfl rfl
      have hg9 := (SD_is T n (Nat_ n w)).2 (Nto n w)
      unfold NV at hg9
      have gg : gI s1' 235 (nI (Nto n w)).toNatClampNeg = nI (SD T n (Nat_ n w) (Nto n w)) := by rw [clN (by omega), M1 _ hat.2.1]
      have key : okStk T n (nI w) b → ∀ (m p : Nat) (o : Option (Nat × Nat)) (x6 x7 x8 x9 : Option AV) (τ : AS), cntN (Tnp T) (SD T n (Nat_ n w)) (SD T n (Nat_ n w) p) < m → p < Tnp T → SD T n (Nat_ n w) p ≠ NV → mS [43] [228, 229, 235] s' τ → MLo T (SD T n (Nat_ n w)) τ → stuckL T n (Tbr T w) (Nset n w) (wayF T n [] 99 0 (SD T n (Nat_ n w)) (Nat_ n w) m p) o = stkF T n w →
          P 33 [some tM, some (iv (nI w)), some (iv b), some (iv (nI p)), some (iv (fstI o)), some (iv (sndI o)), x6, x7, x8, x9] [] τ := by
        intro ok m
        induction m with
        | zero => intro p o x6 x7 x8 x9 τ hc; exact absurd hc (Nat.not_lt_zero _)
        | succ m ih =>
          intro p o x6 x7 x8 x9 τ hc hp hne hS hM he
          have hTN := h.keep hS rfl rfl
          refine hP _ _ _ _ ?_
          refine mcall (c_placeOf G g l (d+4) τ T n hTN.2.2.2 _ w rfl hw h.1) (fun r τ h9 => ?_)
          obtain ⟨rfl, rfl⟩ := h9
          refine And.intro (fun e => ?_) (fun e => ?_)
          · have e := (nI_eq (by omega) (by omega)).mp e
            have ew : wayF T n [] 99 0 (SD T n (Nat_ n w)) (Nat_ n w) (m+1) p = [] := by unfold wayF; rw [if_pos e]
            rw [ew] at he
            have he : o = stkF T n w := he
            subst he
            have eq : q_stuck T n (nI w) b = if b = nI 0 then fstI (stkF T n w) else sndI (stkF T n w) := by
              unfold q_stuck
              rw [if_pos ok, cw]
            refine And.intro (fun q => ?_) (fun q => ?_)
            · refine hP _ _ _ _ ⟨?_, hS⟩
              rw [eq, if_neg q]
            · refine hP _ _ _ _ ⟨?_, hS⟩
              rw [eq, if_pos q]
          · have e : p ≠ Nat_ n w := fun e2 => e (by rw [e2])
            obtain ⟨s, q, b1, b2, b3, b4, b5, b6⟩ := SD_back h.1 hp hne e
            have ht := (h.1.2.1 s b2).2.2.2.1
            have hq36 := SD_36 h.1 b3 b4
            have hcq := cntN_lt (m := Tnp T) (A := SD T n (Nat_ n w)) (p := p) (q := q) b3 (by omega)
            have ew : wayF T n [] 99 0 (SD T n (Nat_ n w)) (Nat_ n w) (m+1) p = (s, SD T n (Nat_ n w) q) :: wayF T n [] 99 0 (SD T n (Nat_ n w)) (Nat_ n w) m q := by
              conv => lhs; unfold wayF
              rw [if_neg e, b1]
            rw [ew] at he
            have he : stuckL T n (Tbr T w) (Nset n w) (wayF T n [] 99 0 (SD T n (Nat_ n w)) (Nat_ n w) m q) (orS (narF T n s (Tbr T w) (Nset n w + SD T n (Nat_ n w) q)) s o) = stkF T n w := he
            refine mcall (c_shortBack G g l (d+2) τ T n hTN (Nat_ n w) hM _ p rfl hp hne _ b1) (fun r τ h9 => ?_)
            obtain ⟨rfl, rfl⟩ := h9
            refine mcall (c_other G g l (d+3) τ T hTN.2.2.1 h.1 _ _ s p rfl rfl b2 (by omega)) (fun r τ h9 => ?_)
            obtain ⟨rfl, rfl⟩ := h9
            rw [b5]
            refine mcall (c_takesOf G g l (d+4) τ T hTN.2.2.1 _ s rfl b2 h.1) (fun r τ h9 => ?_)
            obtain ⟨rfl, rfl⟩ := h9
            have low : ∀ (j i : Nat) (v : Int32) (o' : Option (Nat × Nat)) (x9 : Option AV) (τ' : AS), v = nI j - nI 1 → j + i = Ttk T s → mS [43] [228, 229, 235] s' τ' → MLo T (SD T n (Nat_ n w)) τ' → o' = orS (firstF (fun k => decide (wid T s (Nsh n s) k < Tbr T w)) i (Nset n w + SD T n (Nat_ n w) q + j)) s o →
                P 53 [some tM, some (iv (nI w)), some (iv b), some (iv (nI p)), some (iv (fstI o')), some (iv (sndI o')), some (iv (nI s)), some (iv (nI q)), some (iv v), x9] [] τ' := by
              intro j
              induction j with
              | zero =>
                intro i v o' x9 τ' hv hj hS' hM' ho'
                subst hv
                refine hP _ _ _ _ (And.intro (fun _ => ?_) (fun q9 => absurd (show nI 0 - nI 1 < nI 0 by decide) q9))
                refine ih q o' _ _ _ _ τ' (by omega) b3 b4 hS' hM' ?_
                have ei : i = Ttk T s := by omega
                subst ei
                rw [ho']
                exact he
              | succ j ihj =>
                intro i v o' x9 τ' hv hj hS' hM' ho'
                replace hv := hv.trans (nI_pred j)
                subst hv
                have hTN' := h.keep hS' rfl rfl
                refine hP _ _ _ _ (And.intro (fun q9 => absurd q9 ?_) (fun _ => ?_))
                · show ¬ nI j < nI 0
                  rw [nI_ltI (by omega) (by omega)]; omega
                refine mcall (c_setsOut G g l (d+4) τ' T n hTN'.2.2.2 h.2.1 _ w rfl hw h.1) (fun r τ' h9 => ?_)
                obtain ⟨rfl, rfl⟩ := h9
                have gq : gI τ' 235 (nI q).toNatClampNeg = nI (SD T n (Nat_ n w) q) := by rw [clN (by omega), hM' q b3]
                refine And.intro (show vp_in (nI q) 9 from vinN (by omega) (by decide)) ?_
                have eh : nI (Nset n w) + gI τ' 235 (nI q).toNatClampNeg + nI j = nI (Nset n w + SD T n (Nat_ n w) q + j) := by rw [gq, nI_add, nI_add]
                refine mcall (c_widthOf G g l d τ' T n hTN' _ _ s (Nset n w + SD T n (Nat_ n w) q + j) rfl eh b2 (by omega)) (fun r s3 h9 => ?_)
                obtain ⟨rfl, S3⟩ := h9
                have S3' := hS'.tr (S3.mono (fs' := [43]) (ids' := [228, 229, 235]) rfl rfl)
                have M3 := hM'.keep S3 rfl
                refine mcall (c_broadOf G g l (d+4) s3 T (h.2.2.1.keep S3' rfl) _ w rfl hw h.1) (fun r s3 h9 => ?_)
                obtain ⟨rfl, rfl⟩ := h9
                have hwd := wid_le T s (Nsh n s) (Nset n w + SD T n (Nat_ n w) q + j)
                have at79 : ∀ (o2 : Option (Nat × Nat)) (x9 : Option AV), o2 = orS (firstF (fun k => decide (wid T s (Nsh n s) k < Tbr T w)) (i+1) (Nset n w + SD T n (Nat_ n w) q + j)) s o → P 79 [some tM, some (iv (nI w)), some (iv b), some (iv (nI p)), some (iv (fstI o2)), some (iv (sndI o2)), some (iv (nI s)), some (iv (nI q)), some (iv (nI j)), x9] [] s3 := by
                  intro o2 x9 h2
                  refine hP _ _ _ _ ?_
                  exact ihj (i+1) _ o2 x9 s3 rfl (by omega) S3' M3 h2
                refine And.intro (fun q9 => ?_) (fun q9 => ?_)
                · have q0 := (nI_ltI (by omega) (by omega)).mp q9
                  have z := at79 (some (Nset n w + SD T n (Nat_ n w) q + j, s)) (some (iv (nI (Nset n w + SD T n (Nat_ n w) q + j)))) (by
                    conv => rhs; unfold firstF
                    rw [if_pos (decide_eq_true q0)]
                    rfl)
                  show P 79 [some tM, some (iv (nI w)), some (iv b), some (iv (nI p)), some (iv (nI (Nset n w) + gI τ' 235 (nI q).toNatClampNeg + nI j)), some (iv (nI s)), some (iv (nI s)), some (iv (nI q)), some (iv (nI j)), some (iv (nI (Nset n w) + gI τ' 235 (nI q).toNatClampNeg + nI j))] [] s3
                  rw [eh]
                  exact z
                · have q0 : ¬ wid T s (Nsh n s) (Nset n w + SD T n (Nat_ n w) q + j) < Tbr T w := fun e2 => q9 ((nI_ltI (by omega) (by omega)).mpr e2)
                  refine at79 o' _ ?_
                  rw [ho']
                  conv => rhs; unfold firstF
                  rw [if_neg (by rw [decide_eq_false q0]; decide)]
                  rfl
            exact low (Ttk T s) 0 _ o _ τ rfl (by omega) hS hM rfl
      refine And.intro (show vp_in (nI (Nto n w)) 9 from vinN (by omega) (by decide)) (And.intro (fun e => ?_) (fun e => ?_))
      · have e0 : gI s1' 235 (nI (Nto n w)).toNatClampNeg < nI 1000000 := e
        rw [gg, nI_ltI (by omega) (by omega)] at e0
        have e1 : SD T n (Nat_ n w) (Nto n w) ≠ NV := by unfold NV; omega
        exact key ⟨ha, hb, by rw [cw]; exact e1⟩ 9 (Nto n w) none _ _ _ _ s1' (by have := cntN_le (A := SD T n (Nat_ n w)) hat.2.1; omega) hat.2.1 e1 S1' M1 rfl
      · have e0 : ¬ gI s1' 235 (nI (Nto n w)).toNatClampNeg < nI 1000000 := e
        rw [gg, nI_ltI (by omega) (by omega)] at e0
        refine ⟨?_, S1'⟩
        unfold q_stuck
        rw [if_neg (fun ok => ok.2.2 (by rw [cw]; unfold NV; omega))]
end ST_
