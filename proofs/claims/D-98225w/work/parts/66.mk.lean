section MK
variable (G : CX) (g : GX) (l : Launch) (d : Nat) (σ : AS)
def countF (f : Nat → Bool) : Nat → Nat → Nat
  | 0, _ => 0
  | m+1, h => (if f h = true then 1 else 0) + countF f m (h+1)
theorem countF_le (f : Nat → Bool) : ∀ m h, countF f m h ≤ m
  | 0, _ => Nat.le_refl _
  | m+1, h => by
    have := countF_le f m (h+1)
    unfold countF
    split <;> omega
def q_often (T : Twn) (n : Nws) (a b c e : Int32) : Int32 := if (okSBH T a b c && btw e 1 1000) = true then nI (countF (passF T n a.toNatClampNeg b.toNatClampNeg) e.toNatClampNeg c.toNatClampNeg) else - nI 1
set_option maxHeartbeats 1000000 in
theorem c_often (T : Twn) (n : Nws) (h : TN T n σ) (a b c e : Int32) : MC G g l (d+8) mX6_often [tM, iv a, iv b, iv c, iv e] σ (fun r t => r = some (iv (q_often T n a b c e)) ∧ mS [43] [228, 229] σ t) := by
  have h12 := h.1.1
  refine MC1 tX6_often [19, 25, 37] rfl okX6_often rfl rfl rfl rfl (fun P hP => ?_)
  have no : (okSBH T a b c && btw e 1 1000) = false → P 19 [some tM, some (iv a), some (iv b), some (iv c), some (iv e), none, none] [] σ := by
    intro e9
    exact hP _ _ _ _ ⟨by unfold q_often; rw [if_neg (by rw [e9]; decide)], mS.rf⟩
  refine hP _ _ _ _ ?_
  refine mcall (c_isStreet G g l (d+5) σ T a h.2.2.1 h.1) (fun r s' h9 => ?_)
  obtain ⟨rfl, rfl⟩ := h9
  cases ha : inR a (Tns T) with
  | false => exact And.intro (fun _ => no (by unfold okSBH; rw [ha]; rfl)) (fun q => absurd rfl q)
  | true =>
    refine And.intro (fun q => absurd q (by decide)) (fun _ => ?_)
    refine mcall (c_isIn G g l (d+6) _ _ _ _) (fun r s' h9 => ?_)
    obtain ⟨rfl, rfl⟩ := h9
    rw [btw_long (a := 1) (b := 99) (by decide) (by decide)]
    cases hb : btw b 1 99 with
    | false => exact And.intro (fun _ => no (by unfold okSBH; rw [ha, hb]; rfl)) (fun q => absurd rfl q)
    | true =>
      refine And.intro (fun q => absurd q (by decide)) (fun _ => ?_)
      refine mcall (c_isHour G g l (d+5) _ c) (fun r s' h9 => ?_)
      obtain ⟨rfl, rfl⟩ := h9
      cases hc : btw c 0 99999 with
      | false => exact And.intro (fun _ => no (by unfold okSBH; rw [ha, hb, hc]; rfl)) (fun q => absurd rfl q)
      | true =>
        refine And.intro (fun q => absurd q (by decide)) (fun _ => ?_)
        refine mcall (c_isIn G g l (d+6) _ _ _ _) (fun r s' h9 => ?_)
        obtain ⟨rfl, rfl⟩ := h9
        rw [btw_long (a := 1) (b := 1000) (by decide) (by decide)]
        cases he : btw e 1 1000 with
        | false => exact And.intro (fun q => absurd rfl q) (fun _ => no (by rw [he, Bool.and_false]))
        | true =>
          refine And.intro (fun _ => ?_) (fun q => absurd q (by decide))
          obtain ⟨s, hs, rfl⟩ := inR_of ha (by omega)
          obtain ⟨br, -, hbr, rfl⟩ := btw_of hb (by decide)
          obtain ⟨hr, -, hh, rfl⟩ := btw_of hc (by decide)
          obtain ⟨k9, hk1, hk9, rfl⟩ := btw_of he (by decide)
          have hok : (okSBH T (nI s) (nI br) (nI hr) && btw (nI k9) 1 1000) = true := by unfold okSBH; rw [ha, hb, hc, he]; rfl
          have eq : q_often T n (nI s) (nI br) (nI hr) (nI k9) = nI (countF (passF T n s br) k9 hr) := by
            unfold q_often
            rw [if_pos hok, clN (by omega), clN (by omega), clN (by omega), clN (by omega)]
          have key : ∀ (m k v : Nat) (τ : AS), k + m = hr + k9 → mS [43] [228, 229] s' τ → v + countF (passF T n s br) m k = countF (passF T n s br) k9 hr → v ≤ k → P 25 [some tM, some (iv (nI s)), some (iv (nI br)), some (iv (nI hr)), some (iv (nI k9)), some (iv (nI v)), some (iv (nI k))] [] τ := by
            intro m
            induction m with
            | zero =>
              intro k v τ hm hS hf hv
              refine hP _ _ _ _ (And.intro (fun _ => ⟨?_, hS⟩) (fun q => ?_))
              · rw [eq, ← hf]; rfl
              · exact absurd (by rw [nI_add]; exact nI_le (by omega) (by omega)) q
            | succ m ih =>
              intro k v τ hm hS hf hv
              have go : ∀ (v' : Nat) (τ' : AS), mS [43] [228, 229] s' τ' → v' + countF (passF T n s br) m (k+1) = countF (passF T n s br) k9 hr → v' ≤ k + 1 → P 37 [some tM, some (iv (nI s)), some (iv (nI br)), some (iv (nI hr)), some (iv (nI k9)), some (iv (nI v')), some (iv (nI k))] [] τ' := by
                intro v' τ' a1 a2 a3
                refine hP _ _ _ _ ?_
                show P 25 [some tM, some (iv (nI s)), some (iv (nI br)), some (iv (nI hr)), some (iv (nI k9)), some (iv (nI v')), some (iv (nI k + nI 1))] [] τ'
                rw [nI_add]
                exact ih (k+1) v' τ' (by omega) a1 a2 a3
              refine hP _ _ _ _ (And.intro (fun q => ?_) (fun _ => ?_))
              · have q : nI hr + nI k9 ≤ nI k := q
                rw [nI_add, nI_leI (by omega) (by omega)] at q
                omega
              · refine mcall (c_isPassed G g l d τ T n (h.keep hS rfl rfl) _ _ _ s br k rfl rfl rfl hs (by omega) (by omega)) (fun r s2 h9 => ?_)
                obtain ⟨rfl, h9⟩ := h9
                have hS2 := hS.tr h9
                have hf2 : v + ((if passF T n s br k = true then 1 else 0) + countF (passF T n s br) m (k+1)) = countF (passF T n s br) k9 hr := hf
                cases hp : passF T n s br k with
                | true =>
                  refine And.intro (fun q => absurd q (by decide)) (fun _ => ?_)
                  show P 37 [some tM, some (iv (nI s)), some (iv (nI br)), some (iv (nI hr)), some (iv (nI k9)), some (iv (nI v + nI 1)), some (iv (nI k))] [] s2
                  rw [nI_add]
                  rw [hp, if_pos rfl] at hf2
                  exact go (v+1) s2 hS2 (by omega) (by omega)
                | false =>
                  refine And.intro (fun _ => ?_) (fun q => absurd rfl q)
                  rw [hp, if_neg (by decide)] at hf2
                  exact go v s2 hS2 (by omega) (by omega)
          exact key k9 hr 0 s' rfl mS.rf (by omega) (Nat.zero_le _)
/-- how many walkers are free -/
def freeC (T : Twn) (n : Nws) : Nat := countF (fun w => decide (Nfr n w ≤ Nhr n)) (Tnw T) 0
theorem c_freeMany (T : Twn) (n : Nws) (h : TN T n σ) : MC G g l (d+2) mX6_freeMany [tM] σ (fun r t => r = some (iv (nI (freeC T n))) ∧ t = σ) := by
  have h12 := h.1.1
  have hh := h.2.1.1
  refine MC1 tX6_freeMany [4, 24] rfl okX6_freeMany rfl rfl rfl rfl (fun P hP => ?_)
  have key : ∀ (m k v : Nat), k + m = Tnw T → v + countF (fun w => decide (Nfr n w ≤ Nhr n)) m k = freeC T n → v ≤ k → P 4 [some tM, some (iv (nI v)), some (iv (nI k))] [] σ := by
    intro m
    induction m with
    | zero =>
      intro k v hm hf hv
      refine hP _ _ _ _ ?_
      refine mcall (c_walkerMany G g l d σ) (fun r s' h9 => ?_)
      obtain ⟨rfl, rfl⟩ := h9
      rw [h.2.2.1.2.2.1]
      exact And.intro (fun _ => ⟨by rw [← hf]; rfl, rfl⟩) (fun q => absurd (nI_le (by omega) (by omega)) q)
    | succ m ih =>
      intro k v hm hf hv
      have hk : k < Tnw T := by omega
      have go : ∀ v' : Nat, v' + countF (fun w => decide (Nfr n w ≤ Nhr n)) m (k+1) = freeC T n → v' ≤ k + 1 → P 24 [some tM, some (iv (nI v')), some (iv (nI k))] [] σ := by
        intro v' a1 a2
        refine hP _ _ _ _ ?_
        show P 4 [some tM, some (iv (nI v')), some (iv (nI k + nI 1))] [] σ
        rw [nI_add]
        exact ih (k+1) v' (by omega) a1 a2
      have hf2 : v + ((if decide (Nfr n k ≤ Nhr n) = true then 1 else 0) + countF (fun w => decide (Nfr n w ≤ Nhr n)) m (k+1)) = freeC T n := hf
      have fr9 := (h.2.1.2.2 k hk).2
      refine hP _ _ _ _ ?_
      refine mcall (c_walkerMany G g l d σ) (fun r s' h9 => ?_)
      obtain ⟨rfl, rfl⟩ := h9
      rw [h.2.2.1.2.2.1]
      have e : gI s' 230 (nI 13 + nI 3 * nI k + nI 2).toNatClampNeg = nI (Nfr n k) := by rw [ix3, clN (by omega), (h.2.2.2.2.2 k hk).2.2]
      refine And.intro (fun q => absurd q (nI_ge (by omega) (by omega))) (fun _ => And.intro ?_ (And.intro (vin 0 31 rfl rfl) (And.intro (fun q => ?_) (fun q => ?_))))
      · show vp_in (nI 13 + nI 3 * nI k + nI 2) 31
        rw [ix3]; exact vinN (by omega) (by decide)
      · have q : gI s' 230 0 < gI s' 230 (nI 13 + nI 3 * nI k + nI 2).toNatClampNeg := q
        rw [e, h.2.2.2.1, nI_ltI (by omega) (by omega)] at q
        rw [decide_eq_false (by omega), if_neg (by decide)] at hf2
        exact go v (by omega) (by omega)
      · have q : ¬ gI s' 230 0 < gI s' 230 (nI 13 + nI 3 * nI k + nI 2).toNatClampNeg := q
        rw [e, h.2.2.2.1, nI_ltI (by omega) (by omega)] at q
        rw [decide_eq_true (by omega), if_pos rfl] at hf2
        show P 24 [some tM, some (iv (nI v + nI 1)), some (iv (nI k))] [] s'
        rw [nI_add]
        exact go (v+1) (by omega) (by omega)
  refine hP _ _ _ _ ?_
  exact key (Tnw T) 0 0 (by omega) (by unfold freeC; omega) (Nat.le_refl _)
/-- what there is -/
def q_has (T : Twn) (n : Nws) (sights undos x : Int32) : Int32 := if x = nI 0 then nI (Tnp T) else if x = nI 1 then nI (Tns T) else if x = nI 2 then nI (Tnw T) else if x = nI 3 then nI (Nhr n) else if x = nI 4 then nI (Nhr n / 24) else if x = nI 5 then nI (Nhr n % 24) else if x = nI 6 then nI (freeC T n) else if x = nI 7 then sights else if x = nI 8 then undos else - nI 1
set_option maxHeartbeats 1000000 in
theorem c_has (T : Twn) (n : Nws) (h : TN T n σ) (x : Int32) : MC G g l (d+3) mX6_has [tM, iv x] σ (fun r t => r = some (iv (q_has T n (gI σ 200 66) (gI σ 200 63) x)) ∧ t = σ) := by
  have hh := h.2.1.1
  refine MC0 tX6_has rfl okX6_has rfl rfl rfl rfl (fun P => ?_)
  refine And.intro (fun q => ?_) (fun q0 => And.intro (fun q => ?_) (fun q1 => And.intro (fun q => ?_) (fun q2 => And.intro (fun q => ?_) (fun q3 => And.intro (fun q => ?_) (fun q4 => And.intro (fun q => ?_) (fun q5 => And.intro (fun q => ?_) (fun q6 => And.intro (fun q => ?_) (fun q7 => And.intro (fun q => ?_) (fun q8 => ?_)))))))))
  · have q : x = nI 0 := q
    subst q
    refine mcall (c_placeMany G g l (d+1) σ) (fun r s' h9 => ?_)
    obtain ⟨rfl, rfl⟩ := h9
    exact ⟨by rw [h.2.2.1.1]; rfl, rfl⟩
  · have q : x = nI 1 := q
    subst q
    refine mcall (c_streetMany G g l (d+1) σ) (fun r s' h9 => ?_)
    obtain ⟨rfl, rfl⟩ := h9
    exact ⟨by rw [h.2.2.1.2.1]; rfl, rfl⟩
  · have q : x = nI 2 := q
    subst q
    refine mcall (c_walkerMany G g l (d+1) σ) (fun r s' h9 => ?_)
    obtain ⟨rfl, rfl⟩ := h9
    exact ⟨by rw [h.2.2.1.2.2.1]; rfl, rfl⟩
  · have q : x = nI 3 := q
    subst q
    refine And.intro (vin 0 31 rfl rfl) ⟨?_, rfl⟩
    show some (Sum.inl (gI σ 230 0)) = _
    rw [h.2.2.2.1]; rfl
  · have q : x = nI 4 := q
    subst q
    refine And.intro (vin 0 31 rfl rfl) (And.intro (by decide) ⟨?_, rfl⟩)
    show some (Sum.inl (gI σ 230 0 / nI 24)) = _
    rw [h.2.2.2.1, pk_div (by omega) (by omega) (by omega)]; rfl
  · have q : x = nI 5 := q
    subst q
    refine And.intro (vin 0 31 rfl rfl) (And.intro (by decide) ⟨?_, rfl⟩)
    show some (Sum.inl (gI σ 230 0 - gI σ 230 0 / nI 24 * nI 24)) = _
    rw [h.2.2.2.1, pk_rem (by omega) (by omega) (by omega)]; rfl
  · have q : x = nI 6 := q
    subst q
    refine mcall (c_freeMany G g l d σ T n h) (fun r s' h9 => ?_)
    obtain ⟨rfl, rfl⟩ := h9
    exact ⟨rfl, rfl⟩
  · have q : x = nI 7 := q
    subst q
    exact ⟨rfl, rfl⟩
  · have q : x = nI 8 := q
    subst q
    exact ⟨rfl, rfl⟩
  · refine ⟨?_, rfl⟩
    unfold q_has
    rw [if_neg q0, if_neg q1, if_neg q2, if_neg q3, if_neg q4, if_neg q5, if_neg q6, if_neg q7, if_neg q8]
def q_street (T : Twn) (n : Nws) (a x : Int32) : Int32 := if inR a (Tns T) = true then (if x = nI 0 then nI (Tfr T a.toNatClampNeg) else if x = nI 1 then nI (Tto T a.toNatClampNeg) else if x = nI 2 then nI (Ttk T a.toNatClampNeg) else if x = nI 3 then nI (Trd T a.toNatClampNeg) else if x = nI 4 then nI (Nsh n a.toNatClampNeg) else if x = nI 5 then nI ((Nhr n + Nsh n a.toNatClampNeg) % Trd T a.toNatClampNeg) else if x = nI 6 then nI (wid T a.toNatClampNeg (Nsh n a.toNatClampNeg) (Nhr n)) else - nI 1) else - nI 1
set_option maxHeartbeats 1000000 in
theorem c_street (T : Twn) (n : Nws) (h : TN T n σ) (a x : Int32) : MC G g l (d+6) mX6_street [tM, iv a, iv x] σ (fun r t => r = some (iv (q_street T n a x)) ∧ mS [43] [228, 229] σ t) := by
  have h12 := h.1.1
  have hh := h.2.1.1
  refine MC0 tX6_street rfl okX6_street rfl rfl rfl rfl (fun P => ?_)
  refine mcall (c_isStreet G g l (d+3) σ T a h.2.2.1 h.1) (fun r s' h9 => ?_)
  obtain ⟨rfl, rfl⟩ := h9
  cases ha : inR a (Tns T) with
  | false => exact And.intro (fun q => absurd rfl q) (fun _ => ⟨by unfold q_street; rw [ha]; rfl, mS.rf⟩)
  | true =>
    refine And.intro (fun _ => ?_) (fun q => absurd q (by decide))
    obtain ⟨s, hs, rfl⟩ := inR_of ha (by omega)
    have eq : q_street T n (nI s) x = if x = nI 0 then nI (Tfr T s) else if x = nI 1 then nI (Tto T s) else if x = nI 2 then nI (Ttk T s) else if x = nI 3 then nI (Trd T s) else if x = nI 4 then nI (Nsh n s) else if x = nI 5 then nI ((Nhr n + Nsh n s) % Trd T s) else if x = nI 6 then nI (wid T s (Nsh n s) (Nhr n)) else - nI 1 := by
      unfold q_street
      rw [if_pos ha, clN (by omega)]
    rw [eq]
    have hst := h.2.2.1.2.2.2.1 s hs
    obtain ⟨sh1, sh2⟩ := h.sh hs
    refine And.intro (fun q => ?_) (fun q0 => And.intro (fun q => ?_) (fun q1 => And.intro (fun q => ?_) (fun q2 => And.intro (fun q => ?_) (fun q3 => And.intro (fun q => ?_) (fun q4 => And.intro (fun q => ?_) (fun q5 => And.intro (fun q => ?_) (fun q6 => ?_)))))))
    · have q : x = nI 0 := q
      subst q
      refine mcall (c_endOf G g l (d+4) _ _ _ s 0 rfl rfl (by omega) (by omega)) (fun r s' h9 => ?_)
      obtain ⟨rfl, rfl⟩ := h9
      exact ⟨congrArg _ (congrArg _ hst.1), mS.rf⟩
    · have q : x = nI 1 := q
      subst q
      refine mcall (c_endOf G g l (d+4) _ _ _ s 1 rfl rfl (by omega) (by omega)) (fun r s' h9 => ?_)
      obtain ⟨rfl, rfl⟩ := h9
      exact ⟨congrArg _ (congrArg _ hst.2.1), mS.rf⟩
    · have q : x = nI 2 := q
      subst q
      refine mcall (c_endOf G g l (d+4) _ _ _ s 2 rfl rfl (by omega) (by omega)) (fun r s' h9 => ?_)
      obtain ⟨rfl, rfl⟩ := h9
      exact ⟨congrArg _ (congrArg _ hst.2.2.1), mS.rf⟩
    · have q : x = nI 3 := q
      subst q
      refine mcall (c_endOf G g l (d+4) _ _ _ s 3 rfl rfl (by omega) (by omega)) (fun r s' h9 => ?_)
      obtain ⟨rfl, rfl⟩ := h9
      exact ⟨congrArg _ (congrArg _ hst.2.2.2), mS.rf⟩
    · have q : x = nI 4 := q
      subst q
      refine mcall (c_shiftOf G g l (d+4) _ _ s rfl (by omega)) (fun r s' h9 => ?_)
      obtain ⟨rfl, rfl⟩ := h9
      exact ⟨congrArg _ (congrArg _ sh1), mS.rf⟩
    · have q : x = nI 5 := q
      subst q
      refine And.intro (vin 0 31 rfl rfl) ?_
      refine mcall (c_shiftOf G g l (d+4) _ _ s rfl (by omega)) (fun r s' h9 => ?_)
      obtain ⟨rfl, rfl⟩ := h9
      refine mcall (c_tideOf G g l (d+3) _ T h.2.2.1 h.1 _ _ _ s (Nhr n) (Nsh n s) rfl h.2.2.2.1 sh1 hs (by omega) (by omega)) (fun r s' h9 => ?_)
      obtain ⟨rfl, rfl⟩ := h9
      exact ⟨rfl, mS.rf⟩
    · have q : x = nI 6 := q
      subst q
      refine And.intro (vin 0 31 rfl rfl) ?_
      refine mcall (c_widthOf G g l d _ T n h _ _ s (Nhr n) rfl h.2.2.2.1 hs (by omega)) (fun r s' h9 => ?_)
      obtain ⟨rfl, h9⟩ := h9
      exact ⟨rfl, h9⟩
    · exact ⟨by rw [if_neg q0, if_neg q1, if_neg q2, if_neg q3, if_neg q4, if_neg q5, if_neg q6], mS.rf⟩
def q_walker (T : Twn) (n : Nws) (a x : Int32) : Int32 := if inR a (Tnw T) = true then (if x = nI 0 then nI (Tbr T a.toNatClampNeg) else if x = nI 1 then nI (Nat_ n a.toNatClampNeg) else if x = nI 2 then nI (Nto n a.toNatClampNeg) else if x = nI 3 then nI (Nfr n a.toNatClampNeg) else - nI 1) else - nI 1
theorem c_walker (T : Twn) (n : Nws) (h : TN T n σ) (a x : Int32) : MC G g l (d+3) mX6_walker [tM, iv a, iv x] σ (fun r t => r = some (iv (q_walker T n a x)) ∧ t = σ) := by
  have h12 := h.1.1
  refine MC0 tX6_walker rfl okX6_walker rfl rfl rfl rfl (fun P => ?_)
  refine mcall (c_isWalker G g l d σ T a h.2.2.1 h.1) (fun r s' h9 => ?_)
  obtain ⟨rfl, rfl⟩ := h9
  cases ha : inR a (Tnw T) with
  | false => exact And.intro (fun q => absurd rfl q) (fun _ => ⟨by unfold q_walker; rw [ha]; rfl, rfl⟩)
  | true =>
    refine And.intro (fun _ => ?_) (fun q => absurd q (by decide))
    obtain ⟨w, hw, rfl⟩ := inR_of ha (by omega)
    have eq : q_walker T n (nI w) x = if x = nI 0 then nI (Tbr T w) else if x = nI 1 then nI (Nat_ n w) else if x = nI 2 then nI (Nto n w) else if x = nI 3 then nI (Nfr n w) else - nI 1 := by
      unfold q_walker
      rw [if_pos ha, clN (by omega)]
    rw [eq]
    refine And.intro (fun q => ?_) (fun q0 => And.intro (fun q => ?_) (fun q1 => And.intro (fun q => ?_) (fun q2 => And.intro (fun q => ?_) (fun q3 => ?_))))
    · have q : x = nI 0 := q
      subst q
      refine mcall (c_broadOf G g l (d+1) _ T h.2.2.1 _ w rfl hw h.1) (fun r s' h9 => ?_)
      obtain ⟨rfl, rfl⟩ := h9
      exact ⟨rfl, rfl⟩
    · have q : x = nI 1 := q
      subst q
      refine mcall (c_placeOf G g l (d+1) _ T n h.2.2.2 _ w rfl hw h.1) (fun r s' h9 => ?_)
      obtain ⟨rfl, rfl⟩ := h9
      exact ⟨rfl, rfl⟩
    · have q : x = nI 2 := q
      subst q
      refine mcall (c_goalOf G g l (d+1) _ T n h.2.2.2 _ w rfl hw h.1) (fun r s' h9 => ?_)
      obtain ⟨rfl, rfl⟩ := h9
      exact ⟨rfl, rfl⟩
    · have q : x = nI 3 := q
      subst q
      refine And.intro ?_ ⟨?_, rfl⟩
      · show vp_in (nI 13 + nI 3 * nI w + nI 2) 31
        rw [ix3]; exact vinN (by omega) (by decide)
      · show some (Sum.inl (gI s' 230 (nI 13 + nI 3 * nI w + nI 2).toNatClampNeg)) = _
        rw [ix3, clN (by omega), (h.2.2.2.2.2 w hw).2.2]; rfl
    · exact ⟨by rw [if_neg q0, if_neg q1, if_neg q2, if_neg q3], rfl⟩
end MK
