/-! who is in a street, in the component: others (rows 22 ..), the street that is gone (field 12) -/
def XRd (rs : List Ride) (σ : AS) : Prop := gI σ 0 11 = nI rs.length ∧ rs.length ≤ 36 ∧ ∀ (k : Nat) (r : Ride), rs[k]? = some r → (gI σ (22 + k) 0 = nI r.1 ∧ gI σ (22 + k) 1 = nI r.2.1 ∧ gI σ (22 + k) 2 = nI r.2.2) ∧ r.1 < 12 ∧ r.2.1 ≤ 100000 ∧ r.2.2 ≤ 99
def XGo (wo : Nat) (σ : AS) : Prop := ∀ s, s < 12 → (nI s = gI σ 0 12 ↔ s = wo)
theorem XRd.xs {fs ids : List Nat} {rs : List Ride} {σ s : AS} (h : XRd rs σ) (hS : xS fs ids σ s) (h1 : ids.all (fun a => Nat.blt 0 a && Nat.blt a 22 || Nat.blt 57 a) = true) (h2 : fs.contains 11 = false) : XRd rs s := by
  have hk : ∀ a, a = 0 ∨ (22 ≤ a ∧ a ≤ 57) → a ∉ ids := by
    intro a ha q
    have := List.all_eq_true.mp h1 a q
    simp only [Bool.or_eq_true, Bool.and_eq_true] at this
    rcases this with ⟨q1, q2⟩ | q1
    · have := Nat.le_of_ble_eq_true q1
      have := Nat.le_of_ble_eq_true q2
      omega
    · have := Nat.le_of_ble_eq_true q1
      omega
  refine ⟨?_, h.2.1, fun k r hr => ?_⟩
  · rw [(hS.1 0 11 (hk 0 (Or.inl rfl)) (fun _ q => by simp at h2; exact h2 q)).1]
    exact h.1
  · have hl : k < rs.length := (List.getElem?_eq_some_iff.mp hr).1
    have h9 := h.2.1
    have e : ∀ j, gI s (22 + k) j = gI σ (22 + k) j := fun j => (hS.1 (22 + k) j (hk _ (Or.inr (by omega))) (fun q => by omega)).1
    rw [e, e, e]
    exact h.2.2 k r hr
theorem XGo.xs {fs ids : List Nat} {wo : Nat} {σ s : AS} (h : XGo wo σ) (hS : xS fs ids σ s) (h1 : ids.contains 0 = false) (h2 : fs.contains 12 = false) : XGo wo s := fun k hk => by
  rw [hS.i 0 12 h1 (by rw [h2]; rfl)]
  exact h k hk
theorem XRd.mem {rs : List Ride} {σ : AS} (h : XRd rs σ) (r : Ride) (hr : r ∈ rs) : r.2.2 ≤ 99 := by
  obtain ⟨k, hk⟩ := List.getElem?_of_mem hr
  exact (h.2.2 k r hk).2.2.2
theorem kd_oth {σ : AS} {k : Nat} (h : k < 36) : kd true σ (22 + k) = (5, 3) := by
  have h1 : ∀ k : Fin 36, fixK (22 + k.val) = (5, 3) := by decide
  have h2 : Nat.ble NF (22 + k) = false := by
    cases hh : Nat.ble NF (22 + k) with
    | false => rfl
    | true => have h3 : 268 ≤ 22 + k := Nat.le_of_ble_eq_true hh; omega
  unfold kd
  rw [h2]
  exact h1 ⟨k, h⟩
section XP_
variable (G : CX) (g : GX) (l : Launch) (d : Nat) (σ : AS)
set_option maxHeartbeats 1000000 in
theorem x_left (T : Twn) (n : Nws) (h : XN T n σ) (rs : List Ride) (hR : XRd rs σ) (x y : Int32) (s hr : Nat) (hx : x = nI s) (hy : y = nI hr) (hs : s < Tns T) (h1 : hr ≤ 1000000) :
    MC G g l (d+52) mX0_left [tX, iv x, iv y] σ (fun r t => r = some (iv (nI (wid T s (Nsh n s) hr) - nI (crowd T rs s hr))) ∧ xS [] [14] σ t) := by
  subst hx; subst hy
  have hn := h.1.1
  have ht := (h.1.2.1 s hs).2.2.2.1
  have hw := wid_le T s (Nsh n s) hr
  have h36 := hR.2.1
  refine MC1 tX0_left [4, 7, 15, 16, 34, 43] rfl okX0_left rfl rfl rfl rfl (fun P hP => ?_)
  have key : ∀ (k j : Nat) (o : Option AV) (t : AS), k + j = rs.length → xS [] [14] σ t → P 7 [some tX, some (iv (nI s)), some (iv (nI hr)), some (iv (nI (wid T s (Nsh n s) hr) - nI (crowd T (rs.take j) s hr))), some (iv (nI j)), o] [] t := by
    intro k
    induction k with
    | zero =>
      intro j o t hj hS
      have hR2 := hR.xs hS rfl rfl
      refine hP _ _ _ _ ?_
      refine And.intro (fun _ => ⟨?_, hS⟩) (fun q => absurd (show gI t 0 11 ≤ nI j from ?_) q)
      · rw [List.take_of_length_le (by omega)]
      · rw [hR2.1, nI_leI (by omega) (by omega)]; omega
    | succ k ih =>
      intro j o t hj hS
      have hR2 := hR.xs hS rfl rfl
      obtain ⟨r, hr9⟩ : ∃ r, rs[j]? = some r := ⟨_, List.getElem?_eq_getElem (by omega)⟩
      obtain ⟨⟨r1, r2, r3⟩, b1, b2, b3⟩ := hR2.2.2 j r hr9
      have ht3 := crowd_take T rs s hr j r hr9
      have hcl : crowd T (rs.take j) s hr ≤ 99 * 36 := by
        have := crowd_le T (rs.take j) s hr (fun q hq => hR.mem q (List.mem_of_mem_take hq))
        have : (rs.take j).length ≤ 36 := by rw [List.length_take]; omega
        omega
      refine hP _ _ _ _ ?_
      refine And.intro (fun q => absurd (show gI t 0 11 ≤ nI j from q) ?_) (fun _ => ?_)
      · rw [hR2.1, nI_leI (by omega) (by omega)]; omega
      refine And.intro (show vp_in (nI j) 36 from vinN (by omega) (by decide)) ?_
      show P 15 [some tX, some (iv (nI s)), some (iv (nI hr)), some (iv (nI (wid T s (Nsh n s) hr) - nI (crowd T (rs.take j) s hr))), some (iv (nI j)), o] [rf (22 + (nI j).toNatClampNeg)] t
      rw [clN (by omega)]
      refine hP _ _ _ _ ?_
      show P 16 [some tX, some (iv (nI s)), some (iv (nI hr)), some (iv (nI (wid T s (Nsh n s) hr) - nI (crowd T (rs.take j) s hr))), some (iv (nI j)), some (rf (22 + j))] [] t
      have kk : kd true t (22 + j) = (5, 3) := kd_oth (by omega)
      have nextp : ∀ v, v = rideIn T s hr r → ∀ x : Int32, x = nI v → P 43 [some tX, some (iv (nI s)), some (iv (nI hr)), some (iv (nI (wid T s (Nsh n s) hr) - nI (crowd T (rs.take j) s hr))), some (iv (nI j)), some (rf (22 + j))] [iv x, iv (nI (wid T s (Nsh n s) hr) - nI (crowd T (rs.take j) s hr))] t := by
        intro v hv x hx
        refine hP _ _ _ _ ?_
        show P 7 [some tX, some (iv (nI s)), some (iv (nI hr)), some (iv (nI (wid T s (Nsh n s) hr) - nI (crowd T (rs.take j) s hr) - x)), some (iv (nI j + nI 1)), some (rf (22 + j))] [] t
        have e : nI (wid T s (Nsh n s) hr) - nI (crowd T (rs.take j) s hr) - x = nI (wid T s (Nsh n s) hr) - nI (crowd T (rs.take (j+1)) s hr) := by
          rw [ht3, hx, hv]
          have b9 : rideIn T s hr r ≤ 99 := by unfold rideIn; split <;> omega
          rw [nI_zI (n := wid T s (Nsh n s) hr) (by omega), nI_zI (n := crowd T (rs.take j) s hr) (by omega), nI_zI (n := rideIn T s hr r) (by omega), nI_zI (n := crowd T (rs.take j) s hr + rideIn T s hr r) (by omega), zI_sub, zI_sub, zI_sub]
          congr 1
          omega
        rw [e, nI_add]
        exact ih (j+1) _ t (by omega) hS
      refine hP _ _ _ _ ?_
      refine grd (b := Nat.beq (kd true t (22 + j)).1 5) (by rw [kk]; rfl) ?_
      refine And.intro (show vp_in (nI 0) (kd true t (22 + j)).2 from by rw [kk]; exact vin 0 3 rfl rfl) ?_
      refine And.intro (fun q => ?_) (fun q => ?_)
      · have q : ¬ gI t (22 + j) 0 = nI s := q
        rw [r1, nI_eq (by omega) (by omega)] at q
        exact nextp 0 (by unfold rideIn; rw [if_neg (fun e => q e.1)]) _ rfl
      · have q : gI t (22 + j) 0 = nI s := q
        rw [r1, nI_eq (by omega) (by omega)] at q
        refine grd (b := Nat.beq (kd true t (22 + j)).1 5) (by rw [kk]; rfl) ?_
        refine And.intro (show vp_in (nI 1) (kd true t (22 + j)).2 from by rw [kk]; exact vin 1 3 rfl rfl) ?_
        refine And.intro (fun q2 => ?_) (fun q2 => ?_)
        · have q2 : nI hr < gI t (22 + j) 1 := q2
          rw [r2, nI_ltI (by omega) (by omega)] at q2
          exact nextp 0 (by unfold rideIn; rw [if_neg (fun e => by omega)]) _ rfl
        · have q2 : ¬ nI hr < gI t (22 + j) 1 := q2
          rw [r2, nI_ltI (by omega) (by omega)] at q2
          refine grd (b := Nat.beq (kd true t (22 + j)).1 5) (by rw [kk]; rfl) ?_
          refine And.intro (show vp_in (nI 1) (kd true t (22 + j)).2 from by rw [kk]; exact vin 1 3 rfl rfl) ?_
          refine hP _ _ _ _ (at_street T rfl ((h.xs hS rfl rfl).2.2.1) rfl rfl hs rfl (fun c hc => ?_))
          refine grd (b := isOb (kd true t c) _) (by rw [hc.1]; rfl) ?_
          have e : gI t c 3 = nI (Ttk T s) := hc.2.2.2.1
          refine And.intro (fun q3 => ?_) (fun q3 => ?_)
          · have q3 : gI t (22 + j) 1 + gI t c 3 ≤ nI hr := q3
            rw [r2, e, nI_add, nI_leI (by omega) (by omega)] at q3
            exact nextp 0 (by unfold rideIn; rw [if_neg (fun e => by omega)]) _ rfl
          · have q3 : ¬ gI t (22 + j) 1 + gI t c 3 ≤ nI hr := q3
            rw [r2, e, nI_add, nI_leI (by omega) (by omega)] at q3
            refine grd (b := Nat.beq (kd true t (22 + j)).1 5) (by rw [kk]; rfl) ?_
            refine And.intro (show vp_in (nI 2) (kd true t (22 + j)).2 from by rw [kk]; exact vin 2 3 rfl rfl) ?_
            exact nextp r.2.2 (by unfold rideIn; rw [if_pos ⟨q, by omega, by omega⟩]) _ r3
  refine hP _ _ _ _ ?_
  refine mcall (x_widthIn G g l d σ T n h _ _ s hr rfl rfl hs h1) (fun r' s1 h9 => ?_)
  obtain ⟨rfl, e9⟩ := h9
  show P 4 [some tX, some (iv (nI s)), some (iv (nI hr)), none, none, none] [iv (nI (wid T s (Nsh n s) hr))] s1
  rw [show nI (wid T s (Nsh n s) hr) = nI (wid T s (Nsh n s) hr) - nI (crowd T (rs.take 0) s hr) from by
    show _ = nI (wid T s (Nsh n s) hr) - nI 0
    rw [nI_s1 _ _ (Nat.zero_le _)]; rfl]
  refine hP _ _ _ _ ?_
  exact key rs.length 0 none s1 (by omega) e9
set_option maxHeartbeats 1000000 in
theorem x_canPass (T : Twn) (n : Nws) (h : XN T n σ) (rs : List Ride) (hR : XRd rs σ) (wo : Nat) (hG : XGo wo σ) (x y z : Int32) (s b hr : Nat) (hx : x = nI s) (hy : y = nI b) (hz : z = nI hr) (hs : s < Tns T) (hb : b ≤ 1000) (h1 : hr ≤ 900000) :
    MC G g l (d+53) mX0_canPass [tX, iv x, iv y, iv z] σ (fun r t => r = some (iv (bI (decide (s ≠ wo) && freeF T n rs s b hr))) ∧ xS [] [14] σ t) := by
  subst hx; subst hy; subst hz
  have hn := h.1.1
  have ht := (h.1.2.1 s hs).2.2.2.1
  refine MC1 tX0_canPass [8, 12] rfl okX0_canPass rfl rfl rfl rfl (fun P hP => ?_)
  refine hP _ _ _ _ ?_
  refine And.intro (fun q => ?_) (fun q => ?_)
  · have q : ¬ nI s = gI σ 0 12 := q
    have q9 : s ≠ wo := fun e => q ((hG s (by omega)).mpr e)
    have key : ∀ (k j : Nat) (t : AS), k + j = Ttk T s → xS [] [14] σ t → (∀ i, i < j → b + crowd T rs s (hr + i) ≤ wid T s (Nsh n s) (hr + i)) → P 8 [some tX, some (iv (nI s)), some (iv (nI b)), some (iv (nI hr)), some (iv (nI j))] [] t := by
      intro k
      induction k with
      | zero =>
        intro j t hj hS hall
        refine hP _ _ _ _ (hP _ _ _ _ (at_street T rfl ((h.xs hS rfl rfl).2.2.1) rfl rfl hs rfl (fun c hc => ?_)))
        refine grd (b := isOb (kd true t c) _) (by rw [hc.1]; rfl) ?_
        have e : gI t c 3 = nI (Ttk T s) := hc.2.2.2.1
        refine And.intro (fun _ => ⟨nar1, ?_, hS⟩) (fun q3 => absurd (show gI t c 3 ≤ nI j from by rw [e, nI_leI (by omega) (by omega)]; omega) q3)
        rw [decide_eq_true q9, show freeF T n rs s b hr = true from List.all_eq_true.mpr (fun i hi => decide_eq_true (hall i (by have := List.mem_range.mp hi; omega)))]
        rfl
      | succ k ih =>
        intro j t hj hS hall
        refine hP _ _ _ _ (hP _ _ _ _ (at_street T rfl ((h.xs hS rfl rfl).2.2.1) rfl rfl hs rfl (fun c hc => ?_)))
        refine grd (b := isOb (kd true t c) _) (by rw [hc.1]; rfl) ?_
        have e : gI t c 3 = nI (Ttk T s) := hc.2.2.2.1
        refine And.intro (fun q3 => absurd (show gI t c 3 ≤ nI j from q3) (by rw [e, nI_leI (by omega) (by omega)]; omega)) (fun _ => ?_)
        refine mcall (x_left G g l d t T n (h.xs hS rfl rfl) rs (hR.xs hS rfl rfl) _ _ s (hr + j) rfl (nI_add hr j) hs (by omega)) (fun r' s1 h9 => ?_)
        obtain ⟨rfl, e9⟩ := h9
        have hS2 := hS.tr e9
        have hw := wid_le T s (Nsh n s) (hr + j)
        have hcl : crowd T rs s (hr + j) ≤ 99 * 36 := by
          have := crowd_le T rs s (hr + j) (fun q hq => hR.mem q hq)
          have := hR.2.1
          omega
        refine And.intro (fun q4 => ?_) (fun q4 => ?_)
        · have q4 := (le_sub2 (by omega) (by omega) (by omega)).mp q4
          show P 8 [some tX, some (iv (nI s)), some (iv (nI b)), some (iv (nI hr)), some (iv (nI j + nI 1))] [] s1
          rw [nI_add]
          refine ih (j+1) s1 (by omega) hS2 (fun i hi => ?_)
          by_cases e : i = j
          · rw [e]; exact q4
          · exact hall i (by omega)
        · have q4 : ¬ b + crowd T rs s (hr + j) ≤ wid T s (Nsh n s) (hr + j) := fun q5 => q4 ((le_sub2 (by omega) (by omega) (by omega)).mpr q5)
          refine ⟨nar0, ?_, hS2⟩
          have : freeF T n rs s b hr = false := by
            cases hf : freeF T n rs s b hr with
            | false => rfl
            | true =>
              have := List.all_eq_true.mp hf j (List.mem_range.mpr (by omega))
              exact absurd (of_decide_eq_true this) q4
          rw [this, Bool.and_false]
          rfl
    exact key (Ttk T s) 0 σ (by omega) xS.rf (fun i hi => by omega)
  · have q : nI s = gI σ 0 12 := q
    have q9 : s = wo := (hG s (by omega)).mp q
    refine ⟨nar0, ?_, xS.rf⟩
    rw [decide_eq_false (fun e => e q9)]
    rfl
end XP_
