section XH_
variable (G : CX) (g : GX) (l : Launch) (d : Nat) (σ : AS)
set_option maxHeartbeats 1000000 in
theorem x_has2 (T : Twn) (n : Nws) (h : XN T n σ) (x : Int32) : MC G g l (d+3) mX0_has_2 [tX, iv x] σ (fun r t => r = some (iv (q_has T n (gI σ 0 31) (gI σ 0 28) x)) ∧ t = σ) := by
  have hh := h.2.1.1
  have hT := h.1.1
  refine MC1 tX0_has_2 [31, 48] rfl okX0_has_2 rfl rfl rfl rfl (fun P hP => ?_)
  refine hP _ _ _ _ ?_
  refine And.intro (fun q => ?_) (fun q0 => And.intro (fun q => ?_) (fun q1 => And.intro (fun q => ?_) (fun q2 => And.intro (fun q => ?_) (fun q3 => And.intro (fun q => ?_) (fun q4 => And.intro (fun q => ?_) (fun q5 => And.intro (fun q => ?_) (fun q6 => And.intro (fun q => ?_) (fun q7 => And.intro (fun q => ?_) (fun q8 => ?_)))))))))
  · have q : x = nI 0 := q
    subst q
    refine mcall (x_placeMany G g l d σ T h.2.2.1) (fun r s' h9 => ?_)
    obtain ⟨rfl, rfl⟩ := h9
    exact ⟨rfl, rfl⟩
  · have q : x = nI 1 := q
    subst q
    refine mcall (x_streetMany G g l d σ T h.2.2.1) (fun r s' h9 => ?_)
    obtain ⟨rfl, rfl⟩ := h9
    exact ⟨rfl, rfl⟩
  · have q : x = nI 2 := q
    subst q
    refine mcall (x_walkerMany G g l d σ T h.2.2.1) (fun r s' h9 => ?_)
    obtain ⟨rfl, rfl⟩ := h9
    exact ⟨rfl, rfl⟩
  · have q : x = nI 3 := q
    subst q
    refine ⟨?_, rfl⟩
    show some (Sum.inl (gI σ 16 0)) = _
    rw [h.2.2.2.1]; rfl
  · have q : x = nI 4 := q
    subst q
    refine And.intro (by decide) ⟨?_, rfl⟩
    show some (Sum.inl (gI σ 16 0 / nI 24)) = _
    rw [h.2.2.2.1, pk_div (by omega) (by omega) (by omega)]; rfl
  · have q : x = nI 5 := q
    subst q
    refine And.intro (by decide) ⟨?_, rfl⟩
    show some (Sum.inl (gI σ 16 0 - gI σ 16 0 / nI 24 * nI 24)) = _
    rw [h.2.2.2.1, pk_rem (by omega) (by omega) (by omega)]; rfl
  · have q : x = nI 6 := q
    subst q
    have key : ∀ (m k v : Nat), k + m = Tnw T → v + countF (fun w => decide (Nfr n w ≤ Nhr n)) m k = freeC T n → v ≤ k → P 31 [some tX, some (iv (nI 6)), some (iv (nI v)), some (iv (nI k))] [] σ := by
      intro m
      induction m with
      | zero =>
        intro k v hm hf hv
        refine hP _ _ _ _ ?_
        refine mcall (x_walkerMany G g l d σ T h.2.2.1) (fun r s' h9 => ?_)
        obtain ⟨rfl, rfl⟩ := h9
        refine And.intro (fun _ => ⟨?_, rfl⟩) (fun q => absurd (nI_le (by omega) (by omega)) q)
        show _ = some (iv (nI (freeC T n)))
        rw [← hf]; rfl
      | succ m ih =>
        intro k v hm hf hv
        have hk : k < Tnw T := by omega
        have hf2 : v + ((if decide (Nfr n k ≤ Nhr n) = true then 1 else 0) + countF (fun w => decide (Nfr n w ≤ Nhr n)) m (k+1)) = freeC T n := hf
        have go : ∀ (v' : Nat) (y : Int32), nI v + y = nI v' → v' + countF (fun w => decide (Nfr n w ≤ Nhr n)) m (k+1) = freeC T n → v' ≤ k + 1 → P 48 [some tX, some (iv (nI 6)), some (iv (nI v)), some (iv (nI k))] [iv y, iv (nI v)] σ := by
          intro v' y a0 a2 a3
          refine hP _ _ _ _ ?_
          show P 31 [some tX, some (iv (nI 6)), some (iv (nI v + y)), some (iv (nI k + nI 1))] [] σ
          rw [nI_add, a0]
          exact ih (k+1) v' (by omega) a2 a3
        refine hP _ _ _ _ ?_
        refine mcall (x_walkerMany G g l d σ T h.2.2.1) (fun r s' h9 => ?_)
        obtain ⟨rfl, rfl⟩ := h9
        refine And.intro (fun q => absurd q (nI_ge (by omega) (by omega))) (fun _ => ?_)
        refine And.intro (show vp_in (nI k) 6 from vinN (by omega) (by decide)) ?_
        have e : gI s' 20 (nI k).toNatClampNeg = nI (Nfr n k) := by rw [clN (by omega)]; exact (h.2.2.2.2.2 k hk).2.2
        have hfr := (h.2.1.2.2 k hk).2
        refine And.intro (fun q => ?_) (fun q => ?_)
        · have q : gI s' 16 0 < gI s' 20 (nI k).toNatClampNeg := q
          rw [e, h.2.2.2.1, nI_ltI (by omega) (by omega)] at q
          rw [if_neg (by rw [decide_eq_true_eq]; omega)] at hf2
          exact go v _ (nI_add v 0) (by omega) (by omega)
        · have q : ¬ gI s' 16 0 < gI s' 20 (nI k).toNatClampNeg := q
          rw [e, h.2.2.2.1, nI_ltI (by omega) (by omega)] at q
          rw [if_pos (by rw [decide_eq_true_eq]; omega)] at hf2
          exact go (v+1) _ (nI_add v 1) (by omega) (by omega)
    exact key (Tnw T) 0 0 (by omega) (by unfold freeC; omega) (Nat.le_refl _)
  · have q : x = nI 7 := q
    subst q
    exact ⟨rfl, rfl⟩
  · have q : x = nI 8 := q
    subst q
    exact ⟨rfl, rfl⟩
  · refine ⟨?_, rfl⟩
    unfold q_has
    rw [if_neg q0, if_neg q1, if_neg q2, if_neg q3, if_neg q4, if_neg q5, if_neg q6, if_neg q7, if_neg q8]
set_option maxHeartbeats 1000000 in
theorem x_street (T : Twn) (n : Nws) (h : XN T n σ) (a x : Int32) : MC G g l (d+52) mX0_street [tX, iv a, iv x] σ (fun r t => r = some (iv (q_street T n a x)) ∧ xS [] [14] σ t) := by
  have h12 := h.1.1
  have hh := h.2.1.1
  refine MC1 tX0_street [9] rfl okX0_street rfl rfl rfl rfl (fun P hP => ?_)
  refine hP _ _ _ _ ?_
  refine mcall (x_isStreet G g l (d+48) σ T a h.2.2.1 h.1) (fun r s' h9 => ?_)
  obtain ⟨rfl, rfl⟩ := h9
  cases ha : inR a (Tns T) with
  | false => exact And.intro (fun q => absurd rfl q) (fun _ => ⟨by unfold q_street; rw [ha]; rfl, xS.rf⟩)
  | true =>
    refine And.intro (fun _ => ?_) (fun q => absurd q (by decide))
    obtain ⟨s, hs, rfl⟩ := inR_of ha (by omega)
    have eq : q_street T n (nI s) x = if x = nI 0 then nI (Tfr T s) else if x = nI 1 then nI (Tto T s) else if x = nI 2 then nI (Ttk T s) else if x = nI 3 then nI (Trd T s) else if x = nI 4 then nI (Nsh n s) else if x = nI 5 then nI ((Nhr n + Nsh n s) % Trd T s) else if x = nI 6 then nI (wid T s (Nsh n s) (Nhr n)) else - nI 1 := by
      unfold q_street
      rw [if_pos ha, clN (by omega)]
    have sh1 : gI s' 17 (nI s).toNatClampNeg = nI (Nsh n s) := by rw [clN (by omega)]; exact h.2.2.2.2.1 s hs
    have sh2 := h.2.1.2.1 s hs
    have hr9 := (h.1.2.1 s hs).2.2.2.2.1
    refine hP _ _ _ _ (at_street T rfl h.2.2.1 rfl rfl hs rfl (fun c hc => ?_))
    have hk : isOb (kd true s' c) [8] = true := by rw [hc.1]; rfl
    refine And.intro (fun q => ?_) (fun q0 => And.intro (fun q => ?_) (fun q1 => And.intro (fun q => ?_) (fun q2 => And.intro (fun q => ?_) (fun q3 => And.intro (fun q => ?_) (fun q4 => And.intro (fun q => ?_) (fun q5 => And.intro (fun q => ?_) (fun q6 => ?_)))))))
    · have q : x = nI 0 := q
      subst q
      refine grd (b := isOb (kd true s' c) _) (by rw [hc.1]; rfl) ?_
      exact ⟨(congrArg (fun z => some (iv z)) hc.2.1).trans (by rw [eq]; rfl), xS.rf⟩
    · have q : x = nI 1 := q
      subst q
      refine grd (b := isOb (kd true s' c) _) (by rw [hc.1]; rfl) ?_
      exact ⟨(congrArg (fun z => some (iv z)) hc.2.2.1).trans (by rw [eq]; rfl), xS.rf⟩
    · have q : x = nI 2 := q
      subst q
      refine grd (b := isOb (kd true s' c) _) (by rw [hc.1]; rfl) ?_
      exact ⟨(congrArg (fun z => some (iv z)) hc.2.2.2.1).trans (by rw [eq]; rfl), xS.rf⟩
    · have q : x = nI 3 := q
      subst q
      refine grd (b := isOb (kd true s' c) _) (by rw [hc.1]; rfl) ?_
      exact ⟨(congrArg (fun z => some (iv z)) hc.2.2.2.2.1).trans (by rw [eq]; rfl), xS.rf⟩
    · have q : x = nI 4 := q
      subst q
      refine And.intro (show vp_in (nI s) 12 from vinN (by omega) (by decide)) ?_
      exact ⟨(congrArg (fun z => some (iv z)) sh1).trans (by rw [eq]; rfl), xS.rf⟩
    · have q : x = nI 5 := q
      subst q
      refine And.intro (show vp_in (nI s) 12 from vinN (by omega) (by decide)) ?_
      refine mcall (x_tide G g l (d+46) _ T h.2.2.1 h.1 _ _ _ s (Nhr n) (Nsh n s) rfl sh1 h.2.2.2.1 hs (by omega) (by omega)) (fun r s' h9 => ?_)
      obtain ⟨rfl, rfl⟩ := h9
      exact ⟨by rw [eq]; rfl, xS.rf⟩
    · have q : x = nI 6 := q
      subst q
      refine mcall (x_widthIn G g l d _ T n h _ _ s (Nhr n) rfl h.2.2.2.1 hs (by omega)) (fun r s' h9 => ?_)
      obtain ⟨rfl, h9⟩ := h9
      exact ⟨by rw [eq]; rfl, h9⟩
    · exact ⟨by rw [eq, if_neg q0, if_neg q1, if_neg q2, if_neg q3, if_neg q4, if_neg q5, if_neg q6], xS.rf⟩
theorem x_walker (T : Twn) (n : Nws) (h : XN T n σ) (a x : Int32) : MC G g l (d+5) mX0_walker [tX, iv a, iv x] σ (fun r t => r = some (iv (q_walker T n a x)) ∧ t = σ) := by
  have h12 := h.1.1
  refine MC1 tX0_walker [11] rfl okX0_walker rfl rfl rfl rfl (fun P hP => ?_)
  refine hP _ _ _ _ ?_
  refine mcall (x_isWalker G g l (d+1) σ T a h.2.2.1 h.1) (fun r s' h9 => ?_)
  obtain ⟨rfl, rfl⟩ := h9
  cases ha : inR a (Tnw T) with
  | false => exact And.intro (fun q => absurd rfl q) (fun _ => ⟨by unfold q_walker; rw [ha]; rfl, rfl⟩)
  | true =>
    refine And.intro (fun _ => ?_) (fun q => absurd q (by decide))
    obtain ⟨w, hw, rfl⟩ := inR_of ha (by omega)
    have eq : q_walker T n (nI w) x = if x = nI 0 then nI (Tbr T w) else if x = nI 1 then nI (Nat_ n w) else if x = nI 2 then nI (Nto n w) else if x = nI 3 then nI (Nfr n w) else - nI 1 := by
      unfold q_walker
      rw [if_pos ha, clN (by omega)]
    have vp6 : vp_in (nI w) 6 := vinN (by omega) (by decide)
    have cw : (nI w).toNatClampNeg = w := clN (by omega)
    have hN := h.2.2.2.2.2 w hw
    refine And.intro (fun q0 => And.intro (fun q1 => And.intro (fun q2 => And.intro (fun q3 => ?_) (fun q => ?_)) (fun q => ?_)) (fun q => ?_)) (fun q => ?_)
    · exact ⟨by rw [eq, if_neg q0, if_neg q1, if_neg q2, if_neg q3], rfl⟩
    · have q : x = nI 3 := q
      subst q
      refine And.intro vp6 ⟨?_, rfl⟩
      show some (iv (gI s' 20 (nI w).toNatClampNeg)) = _
      rw [cw, hN.2.2, eq]; rfl
    · have q : x = nI 2 := q
      subst q
      refine And.intro vp6 ⟨?_, rfl⟩
      show some (iv (gI s' 19 (nI w).toNatClampNeg)) = _
      rw [cw, hN.2.1, eq]; rfl
    · have q : x = nI 1 := q
      subst q
      refine And.intro vp6 ⟨?_, rfl⟩
      show some (iv (gI s' 18 (nI w).toNatClampNeg)) = _
      rw [cw, hN.1, eq]; rfl
    · have q : x = nI 0 := q
      subst q
      refine hP _ _ _ _ (at_walker T rfl h.2.2.1 rfl rfl hw rfl (fun c hc => ?_))
      refine grd (b := isOb (kd true s' c) _) (by rw [hc.1]; rfl) ?_
      exact ⟨(congrArg (fun z => some (iv z)) hc.2.1).trans (by rw [eq]; rfl), rfl⟩
theorem x_start (T : Twn) (n : Nws) (h : XN T n σ) (x : Int32) (w : Nat) (hx : x = nI w) (hw : w < Tnw T) : MC G g l (d+2) mX0_start [tX, iv x] σ (fun r t => r = some (iv (nI (Nset n w))) ∧ t = σ) := by
  subst hx
  have h12 := h.1.1
  have n1 := h.2.1.1
  have n2 := (h.2.1.2.2 w hw).2
  refine MC0 tX0_start rfl okX0_start rfl rfl rfl rfl (fun P => And.intro (show vp_in (nI w) 6 from vinN (by omega) (by decide)) ?_)
  refine mcall (j_maxI G g l d σ _ _ (Nhr n) (Nfr n w) h.2.2.2.1 (show gI σ 20 (nI w).toNatClampNeg = _ from by rw [clN (by omega)]; exact (h.2.2.2.2.2 w hw).2.2) (by omega) (by omega)) (fun r s' h9 => ?_)
  obtain ⟨rfl, e9⟩ := h9
  exact ⟨rfl, e9⟩
end XH_
