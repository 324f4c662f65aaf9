section MJ
variable (G : CX) (g : GX) (l : Launch) (d : Nat) (σ : AS)
/-- an int between two numbers -/
def btw (p : Int32) (a b : Nat) : Bool := decide ((a : Int) ≤ p.toInt ∧ p.toInt ≤ (b : Int))
theorem btw_long {p : Int32} {a b : Nat} (ha : a < 2147483648) (hb : b < 2147483648) : decide (lN a ≤ p.toInt64 ∧ p.toInt64 ≤ lN b) = btw p a b := by
  unfold btw
  apply decide_eq_decide.mpr
  rw [Int64.le_iff_toInt_le, Int64.le_iff_toInt_le, Int32.toInt_toInt64, lN_toInt ha, lN_toInt hb]
theorem btw_of {p : Int32} {a b : Nat} (h : btw p a b = true) (hb : b < 2147483648) : ∃ k, a ≤ k ∧ k ≤ b ∧ p = nI k := by
  simp only [btw, decide_eq_true_eq] at h
  refine ⟨p.toInt.toNat, by omega, by omega, ?_⟩
  apply Int32.toInt_inj.mp
  rw [nI_toInt (by omega)]
  omega
theorem c_isHour (p : Int32) : MC G g l (d+2) mX6_isHour [iv p] σ (fun r s => r = some (iv (bI (btw p 0 99999))) ∧ s = σ) := by
  refine MC0 tX6_isHour rfl okX6_isHour rfl rfl rfl rfl (fun P => ?_)
  refine mcall (c_isIn G g l d σ _ _ _) (fun r s' h => ?_)
  obtain ⟨rfl, rfl⟩ := h
  exact ⟨nar_bI _, by rw [← btw_long (by decide) (by decide)], rfl⟩
/-- what is asked of a street's width -/
def q_width (T : Twn) (n : Nws) (a b : Int32) : Int32 := if inR a (Tns T) = true ∧ btw b 0 99999 = true then nI (wid T a.toNatClampNeg (Nsh n a.toNatClampNeg) b.toNatClampNeg) else - nI 1
theorem c_width (T : Twn) (n : Nws) (h : TN T n σ) (a b : Int32) : MC G g l (d+6) mX6_width [tM, iv a, iv b] σ (fun r t => r = some (iv (q_width T n a b)) ∧ mS [43] [228, 229] σ t) := by
  have h12 := h.1.1
  refine MC0 tX6_width rfl okX6_width rfl rfl rfl rfl (fun P => ?_)
  refine mcall (c_isStreet G g l (d+3) σ T a h.2.2.1 h.1) (fun r s' h9 => ?_)
  obtain ⟨rfl, rfl⟩ := h9
  cases ha : inR a (Tns T) with
  | false => exact And.intro (fun _ => ⟨by unfold q_width; rw [if_neg (by rw [ha]; simp)], mS.rf⟩) (fun q => absurd rfl q)
  | true =>
    refine And.intro (fun q => absurd q (by decide)) (fun _ => ?_)
    refine mcall (c_isHour G g l (d+3) _ b) (fun r s' h9 => ?_)
    obtain ⟨rfl, rfl⟩ := h9
    cases hb : btw b 0 99999 with
    | false => exact And.intro (fun _ => ⟨by unfold q_width; rw [if_neg (by rw [hb]; simp)], mS.rf⟩) (fun q => absurd rfl q)
    | true =>
      refine And.intro (fun q => absurd q (by decide)) (fun _ => ?_)
      obtain ⟨s, hs, rfl⟩ := inR_of ha (by omega)
      obtain ⟨hr, -, hh, rfl⟩ := btw_of hb (by decide)
      refine mcall (c_widthOf G g l d _ T n h _ _ s hr rfl rfl hs (by omega)) (fun r s' h9 => ?_)
      obtain ⟨rfl, h9⟩ := h9
      refine ⟨?_, h9⟩
      unfold q_width
      rw [if_pos ⟨ha, hb⟩, clN (by omega), clN (by omega)]
/-- the three things that are asked of a street, a breadth, an hour -/
def okSBH (T : Twn) (a b c : Int32) : Bool := inR a (Tns T) && (btw b 1 99 && btw c 0 99999)
def q_passes (T : Twn) (n : Nws) (a b c : Int32) : Int32 := if okSBH T a b c = true then bI (passF T n a.toNatClampNeg b.toNatClampNeg c.toNatClampNeg) else - nI 1
set_option maxHeartbeats 1000000 in
theorem c_passes (T : Twn) (n : Nws) (h : TN T n σ) (a b c : Int32) : MC G g l (d+8) mX6_passes [tM, iv a, iv b, iv c] σ (fun r t => r = some (iv (q_passes T n a b c)) ∧ mS [43] [228, 229] σ t) := by
  have h12 := h.1.1
  refine MC1 tX6_passes [13] rfl okX6_passes rfl rfl rfl rfl (fun P hP => ?_)
  have no : okSBH T a b c = false → P 13 [some tM, some (iv a), some (iv b), some (iv c)] [] σ := by
    intro e
    exact hP _ _ _ _ ⟨by unfold q_passes; rw [if_neg (by rw [e]; decide)], mS.rf⟩
  refine hP _ _ _ _ ?_
  refine mcall (c_isStreet G g l (d+5) σ T a h.2.2.1 h.1) (fun r s' h9 => ?_)
  obtain ⟨rfl, rfl⟩ := h9
  cases ha : inR a (Tns T) with
  | false => exact And.intro (fun _ => no (by unfold okSBH; rw [ha]; rfl)) (fun q => absurd rfl q)
  | true =>
    refine And.intro (fun q => absurd q (by decide)) (fun _ => ?_)
    refine mcall (c_isIn G g l (d+6) _ _ _ _) (fun r s' h9 => ?_)
    obtain ⟨rfl, rfl⟩ := h9
    rw [btw_long (a := 1) (b := 99) (by decide) (by decide)]
    cases hb : btw b 1 99 with
    | false => exact And.intro (fun _ => no (by unfold okSBH; rw [ha, hb]; rfl)) (fun q => absurd rfl q)
    | true =>
      refine And.intro (fun q => absurd q (by decide)) (fun _ => ?_)
      refine mcall (c_isHour G g l (d+5) _ c) (fun r s' h9 => ?_)
      obtain ⟨rfl, rfl⟩ := h9
      cases hc : btw c 0 99999 with
      | false => exact And.intro (fun q => absurd rfl q) (fun _ => no (by unfold okSBH; rw [ha, hb, hc]; rfl))
      | true =>
        refine And.intro (fun _ => ?_) (fun q => absurd q (by decide))
        obtain ⟨s, hs, rfl⟩ := inR_of ha (by omega)
        obtain ⟨br, -, hbr, rfl⟩ := btw_of hb (by decide)
        obtain ⟨hr, -, hh, rfl⟩ := btw_of hc (by decide)
        have hok : okSBH T (nI s) (nI br) (nI hr) = true := by unfold okSBH; rw [ha, hb, hc]; rfl
        refine mcall (c_isPassed G g l d _ T n h _ _ _ s br hr rfl rfl rfl hs (by omega) (by omega)) (fun r s' h9 => ?_)
        obtain ⟨rfl, h9⟩ := h9
        have e : q_passes T n (nI s) (nI br) (nI hr) = bI (passF T n s br hr) := by
          unfold q_passes
          rw [if_pos hok, clN (by omega), clN (by omega), clN (by omega)]
        rw [e]
        cases passF T n s br hr with
        | false => exact And.intro (fun _ => ⟨rfl, h9⟩) (fun q => absurd rfl q)
        | true => exact And.intro (fun q => absurd q (by decide)) (fun _ => ⟨rfl, h9⟩)
/-- the first of hours from h on, at most m of them, for which f holds; none -/
def firstF (f : Nat → Bool) : Nat → Nat → Option Nat
  | 0, _ => none
  | m+1, h => if f h = true then some h else firstF f m (h+1)
def q_next (T : Twn) (n : Nws) (a b c : Int32) : Int32 := if okSBH T a b c = true then optI (firstF (passF T n a.toNatClampNeg b.toNatClampNeg) 401 c.toNatClampNeg) else - nI 1
set_option maxHeartbeats 1000000 in
theorem c_next (T : Twn) (n : Nws) (h : TN T n σ) (a b c : Int32) : MC G g l (d+8) mX6_next [tM, iv a, iv b, iv c] σ (fun r t => r = some (iv (q_next T n a b c)) ∧ mS [43] [228, 229] σ t) := by
  have h12 := h.1.1
  refine MC1 tX6_next [13, 17] rfl okX6_next rfl rfl rfl rfl (fun P hP => ?_)
  have no : okSBH T a b c = false → P 13 [some tM, some (iv a), some (iv b), some (iv c), none] [] σ := by
    intro e
    exact hP _ _ _ _ ⟨by unfold q_next; rw [if_neg (by rw [e]; decide)], mS.rf⟩
  refine hP _ _ _ _ ?_
  refine mcall (c_isStreet G g l (d+5) σ T a h.2.2.1 h.1) (fun r s' h9 => ?_)
  obtain ⟨rfl, rfl⟩ := h9
  cases ha : inR a (Tns T) with
  | false => exact And.intro (fun _ => no (by unfold okSBH; rw [ha]; rfl)) (fun q => absurd rfl q)
  | true =>
    refine And.intro (fun q => absurd q (by decide)) (fun _ => ?_)
    refine mcall (c_isIn G g l (d+6) _ _ _ _) (fun r s' h9 => ?_)
    obtain ⟨rfl, rfl⟩ := h9
    rw [btw_long (a := 1) (b := 99) (by decide) (by decide)]
    cases hb : btw b 1 99 with
    | false => exact And.intro (fun _ => no (by unfold okSBH; rw [ha, hb]; rfl)) (fun q => absurd rfl q)
    | true =>
      refine And.intro (fun q => absurd q (by decide)) (fun _ => ?_)
      refine mcall (c_isHour G g l (d+5) _ c) (fun r s' h9 => ?_)
      obtain ⟨rfl, rfl⟩ := h9
      cases hc : btw c 0 99999 with
      | false => exact And.intro (fun q => absurd rfl q) (fun _ => no (by unfold okSBH; rw [ha, hb, hc]; rfl))
      | true =>
        refine And.intro (fun _ => ?_) (fun q => absurd q (by decide))
        obtain ⟨s, hs, rfl⟩ := inR_of ha (by omega)
        obtain ⟨br, -, hbr, rfl⟩ := btw_of hb (by decide)
        obtain ⟨hr, -, hh, rfl⟩ := btw_of hc (by decide)
        have hok : okSBH T (nI s) (nI br) (nI hr) = true := by unfold okSBH; rw [ha, hb, hc]; rfl
        have e : q_next T n (nI s) (nI br) (nI hr) = optI (firstF (passF T n s br) 401 hr) := by
          unfold q_next
          rw [if_pos hok, clN (by omega), clN (by omega), clN (by omega)]
        have key : ∀ (m k : Nat) (τ : AS), k + m = hr + 401 → mS [43] [228, 229] s' τ → firstF (passF T n s br) 401 hr = firstF (passF T n s br) m k → P 17 [some tM, some (iv (nI s)), some (iv (nI br)), some (iv (nI hr)), some (iv (nI k))] [] τ := by
          intro m
          induction m with
          | zero =>
            intro k τ hm hS hf
            refine hP _ _ _ _ (And.intro (fun _ => ⟨by rw [e, hf]; rfl, hS⟩) (fun q => ?_))
            have q := Int32.not_lt.mp q
            rw [nI_add, nI_leI (by omega) (by omega)] at q
            omega
          | succ m ih =>
            intro k τ hm hS hf
            refine hP _ _ _ _ (And.intro (fun q => ?_) (fun _ => ?_))
            · have q := Int32.not_le.mpr q
              rw [nI_add, nI_leI (by omega) (by omega)] at q
              omega
            · refine mcall (c_isPassed G g l d τ T n (h.keep hS rfl rfl) _ _ _ s br k rfl rfl rfl hs (by omega) (by omega)) (fun r s2 h9 => ?_)
              obtain ⟨rfl, h9⟩ := h9
              have hS2 := hS.tr h9
              cases hp : passF T n s br k with
              | true =>
                refine And.intro (fun q => absurd q (by decide)) (fun _ => ⟨?_, hS2⟩)
                rw [e, hf]
                unfold firstF
                rw [if_pos hp]
                rfl
              | false =>
                refine And.intro (fun _ => ?_) (fun q => absurd rfl q)
                show P 17 [some tM, some (iv (nI s)), some (iv (nI br)), some (iv (nI hr)), some (iv (nI k + nI 1))] [] s2
                rw [nI_add]
                refine ih (k+1) s2 (by omega) hS2 ?_
                rw [hf]
                conv => lhs; unfold firstF
                rw [if_neg (by rw [hp]; decide)]
        exact key 401 hr s' rfl mS.rf rfl
end MJ
