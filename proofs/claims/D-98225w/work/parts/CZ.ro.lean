/-! many at once, in the component: order (63), arrives (64), bestOrder (65), bestArrives (66), bestLast, bestSum (fields 24, 25) -/
def rIds : List Nat := [14, 22, 23, 24, 25, 26, 27, 28, 29, 30, 31, 32, 33, 34, 35, 36, 37, 38, 39, 40, 41, 42, 43, 44, 45, 46, 47, 48, 49, 50, 51, 52, 53, 54, 55, 56, 57, 58, 59, 60, 61, 64]
theorem rIds_row {k : Nat} (h : k < 36) : rIds.contains (22 + k) = true := by
  have h1 : ∀ k : Fin 36, rIds.contains (22 + k.val) = true := by decide
  exact h1 ⟨k, h⟩
def XOr (os : List Nat) (σ : AS) : Prop := ∀ (i x : Nat), os[i]? = some x → gI σ 63 i = nI x
theorem XRd.push {rs : List Ride} {σ : AS} (h : XRd rs σ) {r : Ride} (hl : rs.length < 36) (h1 : r.1 < 12) (h2 : r.2.1 ≤ 100000) (h3 : r.2.2 ≤ 99) : XRd (rs ++ [r]) (sI (sI (sI (sI σ 0 11 (nI (rs.length + 1))) (22 + rs.length) 0 (nI r.1)) (22 + rs.length) 1 (nI r.2.1)) (22 + rs.length) 2 (nI r.2.2)) := by
  refine ⟨?_, by simp; omega, fun k y hy => ?_⟩
  · rw [gI_sI, if_neg (by omega), gI_sI, if_neg (by omega), gI_sI, if_neg (by omega), gI_sI, if_pos ⟨rfl, rfl⟩, List.length_append]; rfl
  by_cases hk : k < rs.length
  · rw [List.getElem?_append_left hk] at hy
    obtain ⟨⟨a1, a2, a3⟩, a4⟩ := h.2.2 k y hy
    refine ⟨⟨?_, ?_, ?_⟩, a4⟩
    · rw [gI_sI, if_neg (by omega), gI_sI, if_neg (by omega), gI_sI, if_neg (by omega), gI_sI, if_neg (by omega)]; exact a1
    · rw [gI_sI, if_neg (by omega), gI_sI, if_neg (by omega), gI_sI, if_neg (by omega), gI_sI, if_neg (by omega)]; exact a2
    · rw [gI_sI, if_neg (by omega), gI_sI, if_neg (by omega), gI_sI, if_neg (by omega), gI_sI, if_neg (by omega)]; exact a3
  · rw [List.getElem?_append_right (by omega)] at hy
    have hz : k - rs.length < 1 := (List.getElem?_eq_some_iff.mp hy).1
    have : k = rs.length := by omega
    subst this
    simp at hy
    subst hy
    refine ⟨⟨?_, ?_, ?_⟩, h1, h2, h3⟩
    · rw [gI_sI, if_neg (by omega), gI_sI, if_neg (by omega), gI_sI, if_pos ⟨rfl, rfl⟩]
    · rw [gI_sI, if_neg (by omega), gI_sI, if_pos ⟨rfl, rfl⟩]
    · rw [gI_sI, if_pos ⟨rfl, rfl⟩]
theorem XN.xsr {T : Twn} {n : Nws} {σ s : AS} {fs : List Nat} (h : XN T n σ) (hS : xS fs rIds σ s) : XN T n s := h.xs hS (by decide) (by decide)
section RO_
variable (G : CX) (g : GX) (l : Launch) (d : Nat) (σ : AS)
set_option maxHeartbeats 2000000 in
theorem x_walksAll (T : Twn) (n : Nws) (h : XN T n σ) (hR0 : XRd [] σ) (hG : XGo 99 σ) (x : Int32) (os : List Nat) (hx : x = nI os.length) (hl : os.length ≤ 4) (ho : ∀ w ∈ os, w < Tnw T ∧ w < 4) (hO : XOr os σ) :
    MC G g l (d+58) mX0_walksAll [tX, iv x] σ (fun r t => r = some (iv (bI (allGoF T n os [] (fun _ => 0)).isSome)) ∧ xS [11, 17, 18] rIds σ t ∧ gI t 0 11 = nI 0 ∧ ∀ c, allGoF T n os [] (fun _ => 0) = some c → ∀ w ∈ os, gI t 64 w = nI (c w) ∧ c w ≤ 10400) := by
  subst hx
  have h12 := h.1.1
  refine MC1 tX0_walksAll [4, 13, 17, 32, 35, 49, 50, 56, 63, 69, 74, 76] rfl okX0_walksAll rfl rfl rfl rfl (fun P hP => ?_)
  have at76 : ∀ (b : Bool) (o3 o4 o5 o6 : Option AV) (τ : AS), b = (allGoF T n os [] (fun _ => 0)).isSome → xS [11, 17, 18] rIds σ τ → (∀ c, allGoF T n os [] (fun _ => 0) = some c → ∀ w ∈ os, gI τ 64 w = nI (c w) ∧ c w ≤ 10400) → P 76 [some tX, some (iv (nI os.length)), some (iv (bI b)), o3, o4, o5, o6] [] τ := by
    intro b o3 o4 o5 o6 τ hb hS hc
    refine hP _ _ _ _ ⟨nar_bI b, by rw [hb], hS.f rfl, by rw [gI_sI, if_pos ⟨rfl, rfl⟩], fun c hc' w hw => ?_⟩
    rw [gI_sI, if_neg (by omega)]
    exact hc c hc' w hw
  have key : ∀ (rest pre : List Nat) (rs : List Ride) (c : Nat → Nat) (τ : AS) (o4 o5 o6 : Option AV), pre ++ rest = os → xS [11, 17, 18] rIds σ τ → XRd rs τ → XGo 99 τ → rs.length ≤ 8 * pre.length → (∀ w ∈ pre, gI τ 64 w = nI (c w) ∧ c w ≤ 10400) → allGoF T n os [] (fun _ => 0) = allGoF T n rest rs c →
      P 4 [some tX, some (iv (nI os.length)), some (iv (nI 1)), some (iv (nI pre.length)), o4, o5, o6] [] τ := by
    intro rest
    induction rest with
    | nil =>
      intro pre rs c τ o4 o5 o6 he hS hR hGt hrl hc ha
      rw [List.append_nil] at he
      subst he
      refine hP _ _ _ _ (And.intro (fun _ => ?_) (fun q => absurd (nI_le (Nat.le_refl _) (by omega)) q))
      refine at76 true _ _ _ _ τ (by rw [ha]; rfl) hS (fun c' hc' => ?_)
      rw [ha] at hc'
      cases hc'
      exact hc
    | cons w rest ih =>
      intro pre rs c τ o4 o5 o6 he hS hR hGt hrl hc ha
      have hlen : pre.length + (rest.length + 1) = os.length := by rw [← he]; simp
      have hXN := h.xsr hS
      have hwm : w ∈ os := by rw [← he]; simp
      obtain ⟨hw, hw4⟩ := ho w hwm
      have hat := at_np h.1 h.2.1 hw
      have hbr := (h.1.2.2 w hw).1
      have gO : gI τ 63 pre.length = nI w := by
        rw [hS.ia 63 (by decide) rfl]
        exact hO pre.length w (by rw [← he]; simp)
      refine hP _ _ _ _ (And.intro (fun q => absurd q (nI_ge (by omega) (by omega))) (fun _ => And.intro (fun q => absurd q (by decide)) (fun _ => And.intro (show vp_in (nI pre.length) 4 from vinN (by omega) (by decide)) ?_)))
      show P 13 [some tX, some (iv (nI os.length)), some (iv (nI 1)), some (iv (nI pre.length)), o4, o5, o6] [iv (gI τ 63 (nI pre.length).toNatClampNeg)] τ
      rw [clN (by omega), gO]
      refine hP _ _ _ _ ?_
      refine mcall (x_goes G g l d τ T n hXN rs hR 99 hGt _ w rfl hw) (fun r s1 h9 => ?_)
      obtain ⟨rfl, S1, M1, E1, W1⟩ := h9
      have S1' := hS.tr (S1.mono (fs' := [11, 17, 18]) (ids' := rIds) rfl (by decide))
      show P 17 [some tX, some (iv (nI os.length)), some (iv (nI 1)), some (iv (nI pre.length)), some (iv (nI w)), o5, o6] [iv (bI (decide (EAw T n rs 99 w (Nto n w) ≠ NV)))] s1
      by_cases hN : EAw T n rs 99 w (Nto n w) = NV
      · rw [decide_eq_false (fun e => e hN)]
        have hnone : allGoF T n os [] (fun _ => 0) = none := by
          rw [ha]
          unfold allGoF
          rw [if_pos hN]
        refine hP _ _ _ _ (And.intro (fun q => absurd rfl q) (fun _ => ?_))
        refine hP _ _ _ _ ?_
        show P 4 [some tX, some (iv (nI os.length)), some (iv (nI 0)), some (iv (nI pre.length + nI 1)), some (iv (nI w)), o5, o6] [] s1
        refine hP _ _ _ _ (And.intro (fun _ => ?_) (fun _ => And.intro (fun _ => ?_) (fun q => absurd rfl q)))
        · exact at76 false _ _ _ _ s1 (by rw [hnone]; rfl) S1' (fun c' hc' => by rw [hnone] at hc'; cases hc')
        · exact at76 false _ _ _ _ s1 (by rw [hnone]; rfl) S1' (fun c' hc' => by rw [hnone] at hc'; cases hc')
      · rw [decide_eq_true hN]
        obtain ⟨hW, hWl⟩ := W1 hN
        have hWl : (wayR T n rs w).length ≤ 8 := hWl
        have hEle : EAw T n rs 99 w (Nto n w) ≤ 10400 := by
          rcases E1.le h.2.1 hw hat.2.1 with e | e
          · exact absurd e hN
          · exact e
        have ha2 : allGoF T n os [] (fun _ => 0) = allGoF T n rest (rs ++ (wayR T n rs w).map (rideOf T w)) (updN c w (EAw T n rs 99 w (Nto n w))) := by
          rw [ha]
          conv => lhs; unfold allGoF
          rw [if_neg hN]
        have cw : (nI w).toNatClampNeg = w := clN (by omega)
        have X1 := h.xsr S1'
        have gto : gI s1 19 (nI w).toNatClampNeg = nI (Nto n w) := by rw [cw]; exact (X1.2.2.2.2.2 w hw).2.1
        refine hP _ _ _ _ (And.intro (fun _ => And.intro (show vp_in (nI w) 6 from vinN (by omega) (by decide)) (And.intro (show vp_in (gI s1 19 (nI w).toNatClampNeg) 9 by rw [gto]; exact vinN (by omega) (by decide)) ?_)) (fun q => absurd q (by decide)))
        show P 32 [some tX, some (iv (nI os.length)), some (iv (nI 1)), some (iv (nI pre.length)), some (iv (nI w)), o5, o6] [iv (gI s1 58 (gI s1 19 (nI w).toNatClampNeg).toNatClampNeg), iv (nI w), rf 64] s1
        rw [gto, clN (show Nto n w < 2147483648 by omega), M1 _ hat.2.1, fN_of hN]
        have inner : ∀ (m i : Nat) (τ' : AS) (o6 : Option AV), i + m = (wayR T n rs w).length → xS [11, 17, 18] rIds σ τ' → XWay (wayR T n rs w) τ' → XRd (rs ++ ((wayR T n rs w).take i).map (rideOf T w)) τ' → XGo 99 τ' → (∀ x ∈ pre ++ [w], gI τ' 64 x = nI (updN c w (EAw T n rs 99 w (Nto n w)) x) ∧ updN c w (EAw T n rs 99 w (Nto n w)) x ≤ 10400) →
            P 35 [some tX, some (iv (nI os.length)), some (iv (nI 1)), some (iv (nI pre.length)), some (iv (nI w)), some (iv (nI i)), o6] [] τ' := by
          intro m
          induction m with
          | zero =>
            intro i τ' o6 hi hS' hW' hR' hG' hc'
            have ei : i = (wayR T n rs w).length := by omega
            refine hP _ _ _ _ (And.intro (fun _ => ?_) (fun q => absurd (show gI τ' 0 17 ≤ nI i by rw [hW'.1]; exact nI_le (by omega) (by omega)) q))
            refine hP _ _ _ _ ?_
            show P 4 [some tX, some (iv (nI os.length)), some (iv (nI 1)), some (iv (nI pre.length + nI 1)), some (iv (nI w)), some (iv (nI i)), o6] [] τ'
            rw [nI_add]
            have el : pre.length + 1 = (pre ++ [w]).length := by simp
            rw [el]
            rw [List.take_of_length_le (by omega)] at hR'
            exact ih (pre ++ [w]) _ _ τ' _ _ _ (by rw [← he]; simp) hS' hR' hG' (by simp; omega) hc' ha2
          | succ m ihm =>
            intro i τ' o6 hi hS' hW' hR' hG' hc'
            have hil : i < (wayR T n rs w).length := by omega
            obtain ⟨y, hy⟩ : ∃ y, (wayR T n rs w)[i]? = some y := ⟨_, List.getElem?_eq_getElem hil⟩
            have hym := List.mem_of_getElem? hy
            have y1 : y.1 < Tns T := wayF_st _ _ y hym
            have y2 : y.2 ≤ 20000 := wayF_hr h.1 (fun q _ => E1.2 q) _ _ y hat.2.1 (by omega) hym
            obtain ⟨g1, g2⟩ := hW'.2 i y hy
            have hlr : (rs ++ ((wayR T n rs w).take i).map (rideOf T w)).length = rs.length + i := by simp; omega
            have e11 : gI τ' 0 11 = nI (rs.length + i) := by rw [hR'.1, hlr]
            have hri : rs.length + i < 36 := by omega
            have ci : (nI i).toNatClampNeg = i := clN (by omega)
            have vi : vp_in (nI i) 9 := vinN (by omega) (by decide)
            have kk : ∀ u, kd true u (22 + (rs.length + i)) = (5, 3) := fun u => kd_oth hri
            refine hP _ _ _ _ (And.intro (fun q => absurd (show gI τ' 0 17 ≤ nI i from q) (by rw [hW'.1]; exact nI_ge (by omega) (by omega))) (fun _ => And.intro (show vp_in (gI τ' 0 11) 36 by rw [e11]; exact vinN hri (by decide)) ?_))
            show P 49 [some tX, some (iv (nI os.length)), some (iv (nI 1)), some (iv (nI pre.length)), some (iv (nI w)), some (iv (nI i)), o6] [rf (22 + (gI τ' 0 11).toNatClampNeg)] (sI τ' 0 11 (gI τ' 0 11 + nI 1))
            rw [e11, clN (show rs.length + i < 2147483648 by omega), nI_add]
            refine hP _ _ _ _ ?_
            show P 50 [some tX, some (iv (nI os.length)), some (iv (nI 1)), some (iv (nI pre.length)), some (iv (nI w)), some (iv (nI i)), some (rf (22 + (rs.length + i)))] [] (sI τ' 0 11 (nI (rs.length + i + 1)))
            generalize hu0 : sI τ' 0 11 (nI (rs.length + i + 1)) = u0
            have a60 : gI u0 60 i = nI y.1 := by rw [← hu0, gI_sI, if_neg (by omega)]; exact g1
            have a61 : gI u0 61 i = nI y.2 := by rw [← hu0, gI_sI, if_neg (by omega)]; exact g2
            refine hP _ _ _ _ (And.intro vi ?_)
            show P 56 [some tX, some (iv (nI os.length)), some (iv (nI 1)), some (iv (nI pre.length)), some (iv (nI w)), some (iv (nI i)), some (rf (22 + (rs.length + i)))] [iv (gI u0 60 (nI i).toNatClampNeg), iv (nI 0), rf (22 + (rs.length + i))] u0
            rw [ci, a60]
            refine hP _ _ _ _ ?_
            refine grd (b := Nat.beq (kd true u0 (22 + (rs.length + i))).1 5) (by rw [kk]; rfl) ?_
            refine And.intro (show vp_in (nI 0) (kd true u0 (22 + (rs.length + i))).2 by rw [kk]; exact vin 0 3 rfl rfl) (And.intro vi ?_)
            generalize hu1 : sI u0 (22 + (rs.length + i)) 0 (nI y.1) = u1
            show P 63 [some tX, some (iv (nI os.length)), some (iv (nI 1)), some (iv (nI pre.length)), some (iv (nI w)), some (iv (nI i)), some (rf (22 + (rs.length + i)))] [iv (gI (sI u0 (22 + (rs.length + i)) 0 (nI y.1)) 61 (nI i).toNatClampNeg), iv (nI 1), rf (22 + (rs.length + i))] (sI u0 (22 + (rs.length + i)) 0 (nI y.1))
            rw [hu1, ci, show gI u1 61 i = nI y.2 from by rw [← hu1, gI_sI, if_neg (by omega)]; exact a61]
            refine hP _ _ _ _ ?_
            refine grd (b := Nat.beq (kd true u1 (22 + (rs.length + i))).1 5) (by rw [kk]; rfl) ?_
            refine And.intro (show vp_in (nI 1) (kd true u1 (22 + (rs.length + i))).2 by rw [kk]; exact vin 1 3 rfl rfl) ?_
            generalize hu2 : sI u1 (22 + (rs.length + i)) 1 (nI y.2) = u2
            show P 69 [some tX, some (iv (nI os.length)), some (iv (nI 1)), some (iv (nI pre.length)), some (iv (nI w)), some (iv (nI i)), some (rf (22 + (rs.length + i)))] [iv (nI w), rw_ (gR true (sI u1 (22 + (rs.length + i)) 1 (nI y.2)) 0 0), iv (nI 2), rf (22 + (rs.length + i))] (sI u1 (22 + (rs.length + i)) 1 (nI y.2))
            rw [hu2]
            have SA : xS [11, 17, 18] rIds σ u2 := by rw [← hu2, ← hu1, ← hu0]; exact ((hS'.f rfl).a (rIds_row hri)).a (rIds_row hri)
            refine hP _ _ _ _ (at_walker T rfl (h.xsr SA).2.2.1 rfl rfl hw rfl (fun cc hcc => ?_))
            refine grd (b := isOb (kd true u2 cc) _) (by rw [hcc.1]; rfl) ?_
            refine grd (b := Nat.beq (kd true u2 (22 + (rs.length + i))).1 5) (by rw [kk]; rfl) ?_
            refine And.intro (show vp_in (nI 2) (kd true u2 (22 + (rs.length + i))).2 by rw [kk]; exact vin 2 3 rfl rfl) ?_
            show P 35 [some tX, some (iv (nI os.length)), some (iv (nI 1)), some (iv (nI pre.length)), some (iv (nI w)), some (iv (nI i + nI 1)), some (rf (22 + (rs.length + i)))] [] (sI u2 (22 + (rs.length + i)) 2 (gI u2 cc 1))
            rw [nI_add, hcc.2.1]
            have hp := hR'.push (r := rideOf T w y) (by omega) (by show y.1 < 12; omega) (by show y.2 ≤ 100000; omega) (by show Tbr T w ≤ 99; omega)
            rw [hlr] at hp
            have hp : XRd ((rs ++ List.map (rideOf T w) (List.take i (wayR T n rs w))) ++ [rideOf T w y]) (sI u2 (22 + (rs.length + i)) 2 (nI (Tbr T w))) := by rw [← hu2, ← hu1, ← hu0]; exact hp
            have ke : ∀ a k, a ≠ 22 + (rs.length + i) → ¬ (a = 0 ∧ k = 11) → gI (sI u2 (22 + (rs.length + i)) 2 (nI (Tbr T w))) a k = gI τ' a k := fun a k h1 h2 => by
              rw [gI_sI, if_neg (fun z => h1 z.1), ← hu2, gI_sI, if_neg (fun z => h1 z.1), ← hu1, gI_sI, if_neg (fun z => h1 z.1), ← hu0, gI_sI, if_neg h2]
            refine ihm (i+1) _ _ (by omega) (SA.a (rIds_row hri)) ?_ ?_ ?_ ?_
            · refine ⟨?_, fun k z hz => ?_⟩
              · rw [ke 0 17 (by omega) (by omega)]; exact hW'.1
              · rw [ke 60 k (by omega) (by omega), ke 61 k (by omega) (by omega)]; exact hW'.2 k z hz
            · rw [List.take_succ, hy]
              rw [show (rs ++ List.map (rideOf T w) (List.take i (wayR T n rs w) ++ (some y).toList)) = (rs ++ List.map (rideOf T w) (List.take i (wayR T n rs w))) ++ [rideOf T w y] by simp]
              exact hp
            · intro j hj
              rw [ke 0 12 (by omega) (by omega)]; exact hG' j hj
            · intro x hx
              rw [ke 64 x (by omega) (by omega)]
              exact hc' x hx
        refine hP _ _ _ _ (And.intro (show vp_in (nI w) 4 from vinN hw4 (by decide)) ?_)
        show P 35 [some tX, some (iv (nI os.length)), some (iv (nI 1)), some (iv (nI pre.length)), some (iv (nI w)), some (iv (nI 0)), o6] [] (sI s1 64 (nI w).toNatClampNeg (nI (EAw T n rs 99 w (Nto n w))))
        rw [cw]
        have X64 : xS [] [64] s1 (sI s1 64 w (nI (EAw T n rs 99 w (Nto n w)))) := xS.rf.a rfl
        refine inner (wayR T n rs w).length 0 _ _ (by omega) (S1'.a (by decide)) (hW.xs X64 rfl rfl) ?_ ((hGt.xs S1 rfl rfl).xs X64 rfl rfl) ?_
        · simp only [List.take_zero, List.map_nil, List.append_nil]
          exact (hR.xs S1 rfl rfl).xs X64 rfl rfl
        · intro x hx
          rw [gI_sI]
          unfold updN
          by_cases e : x = w
          · rw [if_pos ⟨rfl, e⟩, if_pos e]; exact ⟨rfl, hEle⟩
          · rw [if_neg (fun q => e q.2), if_neg e]
            have hxp : x ∈ pre := by
              rcases List.mem_append.mp hx with q | q
              · exact q
              · exact absurd (by simpa using q) e
            rw [S1.ia 64 rfl rfl]
            exact hc x hxp
  refine hP _ _ _ _ ?_
  exact key os [] [] (fun _ => 0) σ none none none rfl xS.rf hR0 hG (by simp) (fun w hw => by simp at hw) rfl
end RO_
