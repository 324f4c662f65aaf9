section WY_
variable (G : CX) (g : GX) (l : Launch) (d : Nat) (σ : AS)
theorem inR_is {p : Int32} {n : Nat} (hn : n < 1000000) {v : Int32} (hv : v = nI n) : decide (nI 0 ≤ p ∧ p ≤ v - nI 1) = inR p n := by
  subst hv
  have e : (nI n - nI 1).toInt = (n : Int) - 1 := by
    have := pk_sub_toInt (a := n) (b := 1) (by omega) (by omega)
    simpa using this
  have e2 : (nI 0).toInt = 0 := rfl
  unfold inR
  apply decide_eq_decide.mpr
  rw [Int32.le_iff_toInt_le, Int32.le_iff_toInt_le, e, e2]
  omega
theorem x_goes (T : Twn) (n : Nws) (h : XN T n σ) (rs : List Ride) (hR : XRd rs σ) (wo : Nat) (hG : XGo wo σ) (x : Int32) (w : Nat) (hx : x = nI w) (hw : w < Tnw T) :
    MC G g l (d+57) mX0_goes [tX, iv x] σ (fun r t => r = some (iv (bI (decide (EAw T n rs wo w (Nto n w) ≠ NV)))) ∧ xS [17, 18] [14, 58, 59, 60, 61] σ t ∧ XLa T (EAw T n rs wo w) t ∧ IsEAw T n rs wo w ∧ (EAw T n rs wo w (Nto n w) ≠ NV → XWay (wayF T n rs wo (Tbr T w) (EAw T n rs wo w) (Nat_ n w) 9 (Nto n w)) t ∧ (wayF T n rs wo (Tbr T w) (EAw T n rs wo w) (Nat_ n w) 9 (Nto n w)).length ≤ 8)) := by
  subst hx
  have hn := h.1.1
  have hat := at_np h.1 h.2.1 hw
  have hse := Nset_le h.2.1 hw
  have hb := (h.1.2.2 w hw).1
  have vp6 : vp_in (nI w) 6 := vinN (by omega) (by decide)
  have cw : (nI w).toNatClampNeg = w := clN (by omega)
  have hN := h.2.2.2.2.2 w hw
  refine MC1 tX0_goes [14] rfl okX0_goes rfl rfl rfl rfl (fun P hP => ?_)
  refine hP _ _ _ _ (And.intro vp6 (And.intro vp6 ?_))
  refine hP _ _ _ _ (at_walker T rfl h.2.2.1 rfl rfl hw rfl (fun c hc => ?_))
  refine grd (b := isOb (kd true σ c) _) (by rw [hc.1]; rfl) ?_
  refine mcall (x_start G g l (d+54) σ T n h _ w rfl hw) (fun r s1 h9 => ?_)
  obtain ⟨rfl, e9⟩ := h9
  subst e9
  refine mcall (x_goes2 G g l d s1 T n h rs hR wo hG _ _ _ _ (Nat_ n w) (Nto n w) (Tbr T w) (Nset n w) (show gI s1 18 (nI w).toNatClampNeg = _ from by rw [cw]; exact hN.1) (show gI s1 19 (nI w).toNatClampNeg = _ from by rw [cw]; exact hN.2.1) hc.2.1 rfl hat.1 hat.2.1 (by omega) (by omega)) (fun r s2 h9 => ?_)
  obtain ⟨rfl, a1, a2, a3, a4, a5⟩ := h9
  exact ⟨nar_bI _, rfl, a1, a2, ⟨a3, a4⟩, a5⟩
set_option maxHeartbeats 2000000 in
theorem x_way (T : Twn) (n : Nws) (h : XB T n σ) (a k : Int32) : MC G g l (d+58) mX0_way [tX, iv a, iv k] σ (fun r t => r = some (iv (q_way T n a k)) ∧ xS [17, 18] [14, 58, 59, 60, 61] σ t) := by
  have h12 := h.1.1.1
  refine MC1 tX0_way [8] rfl okX0_way rfl rfl rfl rfl (fun P hP => ?_)
  have no : ∀ τ, xS [17, 18] [14, 58, 59, 60, 61] σ τ → ¬ (inR a (Tnw T) = true ∧ EAw T n [] 99 a.toNatClampNeg (Nto n a.toNatClampNeg) ≠ NV) → P 8 [some tX, some (iv a), some (iv k)] [] τ := by
    intro τ hS e
    exact hP _ _ _ _ ⟨by unfold q_way; rw [if_neg e], hS⟩
  refine hP _ _ _ _ ?_
  refine mcall (x_isWalker G g l (d+54) σ T a h.1.2.2.1 h.1.1) (fun r s' h9 => ?_)
  obtain ⟨rfl, rfl⟩ := h9
  cases ha : inR a (Tnw T) with
  | false => exact And.intro (fun _ => no _ xS.rf (by rw [ha]; simp)) (fun q => absurd rfl q)
  | true =>
    refine And.intro (fun q => absurd q (by decide)) (fun _ => ?_)
    obtain ⟨w, hw, rfl⟩ := inR_of ha (by omega)
    have cw : (nI w).toNatClampNeg = w := clN (by omega)
    have hat := at_np h.1.1 h.1.2.1 hw
    refine mcall (x_goes G g l d _ T n h.1 [] h.2.1 99 h.2.2 _ w rfl hw) (fun r s2 h9 => ?_)
    obtain ⟨rfl, hS, hM, hE, hWy⟩ := h9
    by_cases hN : EAw T n [] 99 w (Nto n w) = NV
    · rw [decide_eq_false (fun e => e hN)]
      exact And.intro (fun q => absurd rfl q) (fun _ => no _ hS (by rw [cw]; exact fun e => e.2 hN))
    · rw [decide_eq_true hN]
      obtain ⟨hW, hl⟩ := hWy hN
      have eq : q_way T n (nI w) k = if k = - nI 1 then nI (EAw T n [] 99 w (Nto n w)) else if k = nI 20 then nI (way0 T n w).length else if inR k (way0 T n w).length = true then nI (((way0 T n w)[(way0 T n w).length - 1 - k.toNatClampNeg]?).getD (0, 0)).1 else if btw k 100 (99 + (way0 T n w).length) = true then nI (((way0 T n w)[(way0 T n w).length + 99 - k.toNatClampNeg]?).getD (0, 0)).2 else - nI 1 := by
        unfold q_way
        rw [cw, if_pos ⟨ha, hN⟩]
      rw [eq]
      have hW : XWay (way0 T n w) s2 := hW
      have hl : (way0 T n w).length ≤ 8 := hl
      have w51 := hW.1
      refine And.intro (fun _ => ?_) (fun q => absurd q (by decide))
      refine And.intro (fun q1 => And.intro (fun q2 => ?_) (fun q2 => ?_)) (fun q1 => ?_)
      · refine mcall (x_is G g l (d+56) s2 k _ _) (fun r s3 h9 => ?_)
        obtain ⟨rfl, rfl⟩ := h9
        have e1 : decide (nI 0 ≤ k ∧ k ≤ gI s3 0 17 - nI 1) = inR k (way0 T n w).length := inR_is (by omega) w51
        rw [e1]
        cases hk : inR k (way0 T n w).length with
        | true =>
          refine And.intro (fun q => absurd q (by decide)) (fun _ => ?_)
          obtain ⟨j, hj, rfl⟩ := inR_of hk (by omega)
          have ix : gI s3 0 17 - nI 1 - nI j = nI ((way0 T n w).length - 1 - j) := by rw [w51, nI_s1 _ _ (by omega), nI_s1 _ _ (by omega)]
          obtain ⟨x, hx⟩ : ∃ x, (way0 T n w)[(way0 T n w).length - 1 - j]? = some x := ⟨_, List.getElem?_eq_getElem (by omega)⟩
          refine And.intro (show vp_in (gI s3 0 17 - nI 1 - nI j) 9 by rw [ix]; exact vinN (by omega) (by decide)) ⟨?_, hS⟩
          show some (Sum.inl (gI s3 60 (gI s3 0 17 - nI 1 - nI j).toNatClampNeg)) = _
          rw [ix, clN (by omega), (hW.2 _ x hx).1, if_neg q1, if_neg q2, if_pos rfl, clN (by omega), hx]
          rfl
        | false =>
          refine And.intro (fun _ => ?_) (fun q => absurd rfl q)
          refine mcall (x_btw G g l (d+56) s3 k _ _ 100 (99 + (way0 T n w).length) rfl (by rw [w51, nI_add]) (by decide) (by omega)) (fun r s4 h9 => ?_)
          obtain ⟨rfl, rfl⟩ := h9
          cases hk2 : btw k 100 (99 + (way0 T n w).length) with
          | true =>
            refine And.intro (fun q => absurd q (by decide)) (fun _ => ?_)
            obtain ⟨j, hj1, hj2, rfl⟩ := btw_of hk2 (by omega)
            have ix : gI s4 0 17 - nI 1 - (nI j - nI 100) = nI ((way0 T n w).length + 99 - j) := by rw [w51, nI_s1 _ _ (by omega), nI_s1 _ _ (by omega), nI_s1 _ _ (by omega)]; congr 1; omega
            obtain ⟨x, hx⟩ : ∃ x, (way0 T n w)[(way0 T n w).length + 99 - j]? = some x := ⟨_, List.getElem?_eq_getElem (by omega)⟩
            refine And.intro (show vp_in (gI s4 0 17 - nI 1 - (nI j - nI 100)) 9 by rw [ix]; exact vinN (by omega) (by decide)) ⟨?_, hS⟩
            show some (Sum.inl (gI s4 61 (gI s4 0 17 - nI 1 - (nI j - nI 100)).toNatClampNeg)) = _
            rw [ix, clN (by omega), (hW.2 _ x hx).2, if_neg q1, if_neg q2, if_neg (by decide), if_pos rfl, clN (by omega), hx]
            rfl
          | false =>
            refine And.intro (fun _ => ⟨?_, hS⟩) (fun q => absurd rfl q)
            rw [if_neg q1, if_neg q2, if_neg (by decide), if_neg (by decide)]
      · have q2 : k = nI 20 := q2
        exact ⟨by rw [if_neg q1, if_pos q2]; exact congrArg _ (congrArg _ w51), hS⟩
      · have q1 : k = - nI 1 := q1
        have gto : gI s2 19 (nI w).toNatClampNeg = nI (Nto n w) := by rw [cw, hS.ia 19 rfl rfl]; exact (h.1.2.2.2.2.2 w hw).2.1
        refine And.intro (show vp_in (nI w) 6 from vinN (by omega) (by decide)) (And.intro (show vp_in (gI s2 19 (nI w).toNatClampNeg) 9 by rw [gto]; exact vinN (by omega) (by decide)) ⟨?_, hS⟩)
        show some (Sum.inl (gI s2 58 (gI s2 19 (nI w).toNatClampNeg).toNatClampNeg)) = _
        rw [gto, clN (by omega), hM _ hat.2.1, if_pos q1, fN_of hN]
set_option maxHeartbeats 1000000 in
theorem x_arrival (T : Twn) (n : Nws) (h : XB T n σ) (a p : Int32) : MC G g l (d+56) mX0_arrival [tX, iv a, iv p] σ (fun r t => r = some (iv (q_arrival T n a p)) ∧ xS [18] [14, 58, 59] σ t) := by
  have h12 := h.1.1.1
  refine MC1 tX0_arrival [8, 19] rfl okX0_arrival rfl rfl rfl rfl (fun P hP => ?_)
  have no : (inR a (Tnw T) && inR p (Tnp T)) = false → P 8 [some tX, some (iv a), some (iv p)] [] σ := by
    intro e
    exact hP _ _ _ _ ⟨by unfold q_arrival; rw [if_neg (by rw [e]; simp)], xS.rf⟩
  refine hP _ _ _ _ ?_
  refine mcall (x_isWalker G g l (d+52) σ T a h.1.2.2.1 h.1.1) (fun r s' h9 => ?_)
  obtain ⟨rfl, rfl⟩ := h9
  cases ha : inR a (Tnw T) with
  | false => exact And.intro (fun _ => no (by rw [ha]; rfl)) (fun q => absurd rfl q)
  | true =>
    refine And.intro (fun q => absurd q (by decide)) (fun _ => ?_)
    refine mcall (x_isPlace G g l (d+52) _ T p h.1.2.2.1 h.1.1) (fun r s' h9 => ?_)
    obtain ⟨rfl, rfl⟩ := h9
    cases hp : inR p (Tnp T) with
    | false => exact And.intro (fun q => absurd rfl q) (fun _ => no (by rw [hp, Bool.and_false]))
    | true =>
      refine And.intro (fun _ => ?_) (fun q => absurd q (by decide))
      obtain ⟨w, hw, rfl⟩ := inR_of ha (by omega)
      obtain ⟨p, hpp, rfl⟩ := inR_of hp (by omega)
      have hat := at_np h.1.1 h.1.2.1 hw
      have hse := Nset_le h.1.2.1 hw
      have hb := (h.1.1.2.2 w hw).1
      have cw : (nI w).toNatClampNeg = w := clN (by omega)
      refine And.intro (show vp_in (nI w) 6 from vinN (by omega) (by decide)) ?_
      refine hP _ _ _ _ (at_walker T rfl h.1.2.2.1 rfl rfl hw rfl (fun c hc => ?_))
      refine grd (b := isOb (kd true s' c) _) (by rw [hc.1]; rfl) ?_
      refine mcall (x_start G g l (d+53) s' T n h.1 _ w rfl hw) (fun r s1 h9 => ?_)
      obtain ⟨rfl, e9⟩ := h9
      subst e9
      refine mcall (x_labels G g l d s1 T n h.1 [] h.2.1 99 h.2.2 _ _ _ (Nat_ n w) (Tbr T w) (Nset n w) (show gI s1 18 (nI w).toNatClampNeg = _ from by rw [cw]; exact (h.1.2.2.2.2.2 w hw).1) hc.2.1 rfl hat.1 (by omega) (by omega)) (fun r s2 h9 => ?_)
      obtain ⟨rfl, SS, -, hM, hE, hE2⟩ := h9
      have hM : XLa T (EAw T n [] 99 w) s2 := hM
      have hE2 : EAw T n [] 99 w p ≤ NV := hE2 p
      have vp9 : vp_in (nI p) 9 := vinN (by omega) (by decide)
      have gp : gI s2 58 (nI p).toNatClampNeg = nI (fN (EAw T n [] 99 w p)) := by rw [clN (by omega), hM p hpp]
      have h9 := fN_le hE2
      refine And.intro vp9 (And.intro (fun q => ⟨?_, SS⟩) (fun q => And.intro vp9 ⟨?_, SS⟩))
      · have q : nI 100000000 ≤ gI s2 58 (nI p).toNatClampNeg := q
        rw [gp, nI_leI (by omega) (by omega)] at q
        have q : ¬ EAw T n [] 99 w p ≠ NV := fun z => by have := (fN_lt hE2).mpr z; omega
        unfold q_arrival
        rw [if_neg (fun e => e.2 (by rw [clN (by omega), clN (by omega)]; exact Classical.not_not.mp q))]
      · have q : ¬ nI 100000000 ≤ gI s2 58 (nI p).toNatClampNeg := q
        rw [gp, nI_leI (by omega) (by omega)] at q
        have q : EAw T n [] 99 w p ≠ NV := (fN_lt hE2).mp (by omega)
        show some (Sum.inl (gI s2 58 (nI p).toNatClampNeg)) = _
        rw [gp, fN_of q]
        unfold q_arrival
        rw [if_pos ⟨by rw [ha, hp]; rfl, by rw [clN (by omega), clN (by omega)]; exact q⟩, clN (by omega), clN (by omega)]
set_option maxHeartbeats 2000000 in
theorem x_needed (T : Twn) (n : Nws) (h : XB T n σ) (a : Int32) : MC G g l (d+58) mX0_needed [tX, iv a] σ (fun r t => r = some (iv (q_needed T n a)) ∧ xS [12, 17, 18] [14, 58, 59, 60, 61] σ t ∧ XGo 99 t) := by
  have h12 := h.1.1.1
  refine MC1 tX0_needed [8, 14, 31] rfl okX0_needed rfl rfl rfl rfl (fun P hP => ?_)
  have no : ∀ τ, xS [17, 18] [14, 58, 59, 60, 61] σ τ → ¬ (inR a (Tnw T) = true ∧ EAw T n [] 99 a.toNatClampNeg (Nto n a.toNatClampNeg) ≠ NV) → P 8 [some tX, some (iv a), none, none] [] τ := by
    intro τ hS e
    exact hP _ _ _ _ ⟨by unfold q_needed; rw [if_neg e], hS.mono rfl rfl, h.2.2.xs hS rfl rfl⟩
  refine hP _ _ _ _ ?_
  refine mcall (x_isWalker G g l (d+54) σ T a h.1.2.2.1 h.1.1) (fun r s' h9 => ?_)
  obtain ⟨rfl, rfl⟩ := h9
  cases ha : inR a (Tnw T) with
  | false => exact And.intro (fun _ => no _ xS.rf (by rw [ha]; simp)) (fun q => absurd rfl q)
  | true =>
    refine And.intro (fun q => absurd q (by decide)) (fun _ => ?_)
    obtain ⟨w, hw, rfl⟩ := inR_of ha (by omega)
    have cw : (nI w).toNatClampNeg = w := clN (by omega)
    refine mcall (x_goes G g l d _ T n h.1 [] h.2.1 99 h.2.2 _ w rfl hw) (fun r s2 h9 => ?_)
    obtain ⟨rfl, hS, -, -, -⟩ := h9
    by_cases hN : EAw T n [] 99 w (Nto n w) = NV
    · rw [decide_eq_false (fun e => e hN)]
      exact And.intro (fun q => absurd rfl q) (fun _ => no _ hS (by rw [cw]; exact fun e => e.2 hN))
    · rw [decide_eq_true hN]
      refine And.intro (fun _ => ?_) (fun q => absurd q (by decide))
      have eq : q_needed T n (nI w) = neededF T n w (Tns T) := by unfold q_needed; rw [cw, if_pos ⟨ha, hN⟩]
      have key : ∀ (m s : Nat) (τ : AS), s + m = Tns T → xS [12, 17, 18] [14, 58, 59, 60, 61] s' τ → P 14 [some tX, some (iv (nI w)), some (iv (neededF T n w s)), some (iv (nI s))] [] τ := by
        intro m
        induction m with
        | zero =>
          intro s τ hm hS
          have hs : s = Tns T := by omega
          refine hP _ _ _ _ ?_
          refine mcall (x_streetMany G g l (d+55) τ T (h.1.2.2.1.xs hS rfl)) (fun r s3 h9 => ?_)
          obtain ⟨rfl, rfl⟩ := h9
          refine And.intro (fun _ => ⟨by rw [eq, hs], hS.f rfl, fun j hj => ?_⟩) (fun q => absurd (nI_le (by omega) (by omega)) q)
          rw [gI_sI, if_pos ⟨rfl, rfl⟩]
          exact ⟨fun e => absurd e (nI_neg1 (by omega)), fun e => by omega⟩
        | succ m ih =>
          intro s τ hm hS
          have hs : s < Tns T := by omega
          refine hP _ _ _ _ ?_
          refine mcall (x_streetMany G g l (d+55) τ T (h.1.2.2.1.xs hS rfl)) (fun r s3 h9 => ?_)
          obtain ⟨rfl, rfl⟩ := h9
          refine And.intro (fun q => absurd q (nI_ge (by omega) (by omega))) (fun _ => ?_)
          have S3 : xS [12, 17, 18] [14, 58, 59, 60, 61] s' (sI s3 0 12 (nI s)) := hS.f rfl
          have G3 : XGo s (sI s3 0 12 (nI s)) := fun j hj => by
            rw [gI_sI, if_pos ⟨rfl, rfl⟩, nI_eq (by omega) (by omega)]
          refine mcall (x_goes G g l d _ T n (h.1.xs S3 rfl rfl) [] (h.2.1.xs S3 rfl rfl) s G3 _ w rfl hw) (fun r s4 h9 => ?_)
          obtain ⟨rfl, S4, -, -, -⟩ := h9
          have S4' := S3.tr (S4.mono rfl rfl)
          have go : ∀ v : Int32, neededF T n w s ||| v = neededF T n w (s+1) → P 31 [some tX, some (iv (nI w)), some (iv (neededF T n w s)), some (iv (nI s))] [iv v, iv (neededF T n w s)] s4 := by
            intro v hv
            refine hP _ _ _ _ ?_
            show P 14 [some tX, some (iv (nI w)), some (iv (neededF T n w s ||| v)), some (iv (nI s + nI 1))] [] s4
            rw [nI_add, hv]
            exact ih (s+1) s4 (by omega) S4'
          by_cases e : EAw T n [] s w (Nto n w) = NV
          · rw [decide_eq_false (fun z => z e)]
            refine And.intro (fun _ => ?_) (fun q => absurd rfl q)
            exact go _ (by conv => rhs; unfold neededF
                           rw [if_pos e])
          · rw [decide_eq_true e]
            refine And.intro (fun q => absurd q (by decide)) (fun _ => ?_)
            exact go _ (by conv => rhs; unfold neededF
                           rw [if_neg e]
                           exact Int32.or_zero)
      exact key (Tns T) 0 s2 (by omega) (hS.mono rfl rfl)
end WY_
