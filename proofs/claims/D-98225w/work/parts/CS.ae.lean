def aIds : List Nat := [16, 17, 18, 19, 20] ++ kIds
theorem zI_modN (a up dn m : Nat) (hm : 1 ≤ m) (hd : dn ≤ 100 * m) : zI (((a : Int) + ((up : Int) - (dn : Int))) % (m : Int)) = nI ((a + up + 100 * m - dn) % m) := by
  have e : ((a : Int) + ((up : Int) - (dn : Int))) % (m : Int) = (((a + up + 100 * m - dn) % m : Nat) : Int) := by
    have h1 : (a : Int) + ((up : Int) - (dn : Int)) = ((a + up + 100 * m - dn : Nat) : Int) + (m : Int) * (-100) := by
      have : ((a + up + 100 * m - dn : Nat) : Int) = (a : Int) + up + 100 * m - dn := by omega
      rw [this]
      generalize (m : Int) = q
      omega
    rw [h1, Int.add_mul_emod_self_left]
    exact (Int.natCast_emod _ _).symm
  rw [e]
  have := Nat.mod_lt (a + up + 100 * m - dn) (show m > 0 by omega)
  by_cases hb : m ≤ 1000000
  · exact (nI_zI (by omega)).symm
  · show Int32.ofInt _ = _
    exact rfl
section AE_
variable (G : CX) (g : GX) (l : Launch) (d : Nat) (σ : AS)
theorem x_moves (T : Twn) (n : Nws) (h : XN T n σ) (x y : Int32) (s up dn : Nat) (hx : x = nI s) (hy : y = zI ((up : Int) - (dn : Int))) (hs : s < Tns T) (h1 : up ≤ 2) (h2 : dn ≤ 99) : MC G g l (d+5) mX0_moves [tX, iv x, iv y] σ (fun r t => r = none ∧ xS [] [17] σ t ∧ XNw T (setSh n s ((Nsh n s + up + 100 * Trd T s - dn) % Trd T s)) t) := by
  subst hx; subst hy
  have h12 := h.1.1
  have hr9 := (h.1.2.1 s hs).2.2.2.2.1
  have hsh := h.2.1.2.1 s hs
  have cs : (nI s).toNatClampNeg = s := clN (by omega)
  have vs : vp_in (nI s) 12 := vinN (by omega) (by decide)
  have e1 : gI σ 17 (nI s).toNatClampNeg = nI (Nsh n s) := by rw [cs]; exact h.2.2.2.2.1 s hs
  refine MC1 tX0_moves [14] rfl okX0_moves rfl rfl rfl rfl (fun P hP => ?_)
  refine hP _ _ _ _ (And.intro vs ?_)
  refine hP _ _ _ _ (at_street T rfl h.2.2.1 rfl rfl hs rfl (fun c hc => ?_))
  refine grd (b := isOb (kd true σ c) _) (by rw [hc.1]; rfl) ?_
  refine mcall (j_floorMod G g l (d+3) σ _ _ ((Nsh n s : Int) + ((up : Int) - (dn : Int))) (Trd T s) (show gI σ 17 (nI s).toNatClampNeg + zI ((up : Int) - (dn : Int)) = _ from by rw [e1, nI_zI (by omega), zI_add]) hc.2.2.2.2.1 hr9.1 (by omega) (by omega)) (fun r s1 h9 => ?_)
  obtain ⟨rfl, e9⟩ := h9
  subst e9
  refine And.intro vs ⟨rfl, xS.rf.a rfl, ?_⟩
  show XNw T _ (sI s1 17 (nI s).toNatClampNeg (zI (((Nsh n s : Int) + ((up : Int) - (dn : Int))) % (Trd T s : Int))))
  rw [cs, zI_modN _ _ _ _ hr9.1 (by omega)]
  exact h.2.2.2.shf s _
set_option maxHeartbeats 1000000 in
theorem x_go (T : Twn) (n : Nws) (ks : List Nws) (h : XN T n σ) (hK : XKp T ks σ) (hz : 268 ≤ zn σ) (x : Int32) : MC G g l (d+3) mX0_go [tX, iv x] σ (fun r t => if okGo n x = true then (r = some (iv (nI (Nhr n + x.toNatClampNeg))) ∧ yS [28] aIds σ t ∧ XNw T (setHr n (Nhr n + x.toNatClampNeg)) t ∧ XKp T ((n :: ks).take 20) t) else (r = some (iv (- nI 1)) ∧ xS [] [15] σ t ∧ XInc 2 σ t)) := by
  have hh := h.2.1.1
  refine MC1 tX0_go [12] rfl okX0_go rfl rfl rfl rfl (fun P hP => ?_)
  have no : okGo n x = false → P 12 [some tX, some (iv x)] [] σ := by
    intro e
    refine hP _ _ _ _ ?_
    refine mcall (x_refuses G g l (d+1) σ _ 2 rfl (by omega)) (fun r s1 h9 => ?_)
    obtain ⟨rfl, e9⟩ := h9
    subst e9
    show if okGo n x = true then _ else _
    rw [if_neg (by rw [e]; decide)]
    exact ⟨rfl, xS.rf.a rfl, XInc.mk 2 σ⟩
  refine hP _ _ _ _ ?_
  refine mcall (x_btw G g l (d+1) σ x _ _ 1 500 rfl rfl (by decide) (by decide)) (fun r s' h9 => ?_)
  obtain ⟨rfl, rfl⟩ := h9
  cases ha : btw x 1 500 with
  | false => exact And.intro (fun _ => no (by unfold okGo; rw [ha]; rfl)) (fun q => absurd rfl q)
  | true =>
    refine And.intro (fun q => absurd q (by decide)) (fun _ => ?_)
    obtain ⟨v, hv1, hv2, rfl⟩ := btw_of ha (by decide)
    have cv9 : (nI v).toNatClampNeg = v := clN (by omega)
    have g0 := h.2.2.2.1
    refine And.intro (fun q => ?_) (fun q => ?_)
    · have q : gI s' 16 0 + nI v ≤ nI 9999 := q
      rw [g0, nI_add, nI_leI (by omega) (by omega)] at q
      have ok : okGo n (nI v) = true := by unfold okGo; rw [ha, cv9, decide_eq_true q]; rfl
      refine mcall (x_keeps G g l d s' T n ks h.1 h.2.1 h.2.2.2 hK hz) (fun r s2 h9 => ?_)
      obtain ⟨rfl, S2, K2⟩ := h9
      have N2 := h.2.2.2.ys S2 hz rfl
      have hz2 : 268 ≤ zn s2 := by rw [S2.2.1]; exact hz
      have e0 : gI s2 16 0 + nI v = nI (Nhr n + v) := by rw [N2.1, nI_add]
      show if okGo n (nI v) = true then _ else _
      rw [if_pos ok, cv9]
      have X3 : xS [] [16] s2 (sI s2 16 0 (gI s2 16 0 + nI v)) := xS.rf.a rfl
      refine ⟨congrArg _ (congrArg _ e0), (S2.mono rfl (by decide)).tr (X3.y.mono rfl (by decide)), ?_, K2.ys X3.y hz2 rfl rfl⟩
      have := N2.hr (Nhr n + v)
      rw [← e0] at this
      exact this
    · have q : ¬ gI s' 16 0 + nI v ≤ nI 9999 := q
      rw [g0, nI_add, nI_leI (by omega) (by omega)] at q
      exact no (by unfold okGo; rw [ha, cv9, decide_eq_false q]; rfl)
set_option maxHeartbeats 1000000 in
theorem x_hold (T : Twn) (n : Nws) (ks : List Nws) (h : XN T n σ) (hK : XKp T ks σ) (hz : 268 ≤ zn σ) (a b : Int32) : MC G g l (d+6) mX0_hold [tX, iv a, iv b] σ (fun r t => if okHold T a b = true then (r = some (iv (nI (holdF T n a.toNatClampNeg b.toNatClampNeg))) ∧ yS [28] aIds σ t ∧ XNw T (setSh n a.toNatClampNeg (holdF T n a.toNatClampNeg b.toNatClampNeg)) t ∧ XKp T ((n :: ks).take 20) t) else (r = some (iv (- nI 1)) ∧ xS [] [15] σ t ∧ XInc 2 σ t)) := by
  have h12 := h.1.1
  refine MC1 tX0_hold [9] rfl okX0_hold rfl rfl rfl rfl (fun P hP => ?_)
  have no : okHold T a b = false → P 9 [some tX, some (iv a), some (iv b)] [] σ := by
    intro e
    refine hP _ _ _ _ ?_
    refine mcall (x_refuses G g l (d+4) σ _ 2 rfl (by omega)) (fun r s1 h9 => ?_)
    obtain ⟨rfl, e9⟩ := h9
    subst e9
    show if okHold T a b = true then _ else _
    rw [if_neg (by rw [e]; decide)]
    exact ⟨rfl, xS.rf.a rfl, XInc.mk 2 σ⟩
  refine hP _ _ _ _ ?_
  refine mcall (x_isStreet G g l (d+2) σ T a h.2.2.1 h.1) (fun r s' h9 => ?_)
  obtain ⟨rfl, rfl⟩ := h9
  cases ha : inR a (Tns T) with
  | false => exact And.intro (fun _ => no (by unfold okHold; rw [ha]; rfl)) (fun q => absurd rfl q)
  | true =>
    refine And.intro (fun q => absurd q (by decide)) (fun _ => ?_)
    refine mcall (x_btw G g l (d+4) _ b _ _ 1 99 rfl rfl (by decide) (by decide)) (fun r s' h9 => ?_)
    obtain ⟨rfl, rfl⟩ := h9
    cases hb : btw b 1 99 with
    | false => exact And.intro (fun q => absurd rfl q) (fun _ => no (by unfold okHold; rw [ha, hb]; rfl))
    | true =>
      refine And.intro (fun _ => ?_) (fun q => absurd q (by decide))
      obtain ⟨s, hs, rfl⟩ := inR_of ha (by omega)
      obtain ⟨v, hv1, hv2, rfl⟩ := btw_of hb (by decide)
      have cs : (nI s).toNatClampNeg = s := clN (by omega)
      have cv9 : (nI v).toNatClampNeg = v := clN (by omega)
      have ok : okHold T (nI s) (nI v) = true := by unfold okHold; rw [ha, hb]; rfl
      refine mcall (x_keeps G g l (d+3) s' T n ks h.1 h.2.1 h.2.2.2 hK hz) (fun r s2 h9 => ?_)
      obtain ⟨rfl, S2, K2⟩ := h9
      have N2 := h.2.2.2.ys S2 hz rfl
      have hz2 : 268 ≤ zn s2 := by rw [S2.2.1]; exact hz
      have X2 : XN T n s2 := ⟨h.1, h.2.1, h.2.2.1.ys S2 hz rfl rfl, N2⟩
      refine mcall (x_moves G g l d s2 T n X2 _ _ s 0 v rfl (show - nI v = zI (((0 : Nat) : Int) - (v : Int)) from by rw [nI_zI (by omega)]; show - Int32.ofInt _ = Int32.ofInt _; rw [← Int32.ofInt_neg]; congr 1; omega) hs (by omega) (by omega)) (fun r s3 h9 => ?_)
      obtain ⟨rfl, S3, N3⟩ := h9
      refine And.intro (show vp_in (nI s) 12 from vinN (by omega) (by decide)) ?_
      show if okHold T (nI s) (nI v) = true then _ else _
      rw [if_pos ok, cs, cv9]
      refine ⟨?_, (S2.mono rfl (by decide)).tr (S3.y.mono rfl (by decide)), N3, K2.ys S3.y hz2 rfl rfl⟩
      show some (iv (gI s3 17 s)) = _
      rw [N3.2.1 s hs]
      show some (iv (nI (if s = s then (Nsh n s + 0 + 100 * Trd T s - v) % Trd T s else _))) = _
      rw [if_pos rfl]
      rfl
set_option maxHeartbeats 2000000 in
theorem x_days (T : Twn) (n : Nws) (ks : List Nws) (sd : Nat) (h : XN T n σ) (hK : XKp T ks σ) (hz : 268 ≤ zn σ) (hsd : gL σ 0 29 = lN sd) (hlt : sd < 2147483648) (x : Int32) : MC G g l (d+6) mX0_days [tX, iv x] σ (fun r t => if okDays n x = true then (r = some (iv (nI (Nhr n + 24 * x.toNatClampNeg))) ∧ yS [28, 29] aIds σ t ∧ XN T (dayN T x.toNatClampNeg (n, sd)).1 t ∧ XKp T ((n :: ks).take 20) t ∧ gL t 0 29 = lN (dayN T x.toNatClampNeg (n, sd)).2 ∧ (dayN T x.toNatClampNeg (n, sd)).2 < 2147483648) else (r = some (iv (- nI 1)) ∧ xS [] [15] σ t ∧ XInc 2 σ t)) := by
  have hh := h.2.1.1
  have h12 := h.1.1
  refine MC1 tX0_days [14, 22, 32, 40, 49] rfl okX0_days rfl rfl rfl rfl (fun P hP => ?_)
  have no : okDays n x = false → P 14 [some tX, some (iv x), none, none] [] σ := by
    intro e
    refine hP _ _ _ _ ?_
    refine mcall (x_refuses G g l (d+4) σ _ 2 rfl (by omega)) (fun r s1 h9 => ?_)
    obtain ⟨rfl, e9⟩ := h9
    subst e9
    show if okDays n x = true then _ else _
    rw [if_neg (by rw [e]; decide)]
    exact ⟨rfl, xS.rf.a rfl, XInc.mk 2 σ⟩
  refine hP _ _ _ _ ?_
  refine mcall (x_btw G g l (d+4) σ x _ _ 1 30 rfl rfl (by decide) (by decide)) (fun r s' h9 => ?_)
  obtain ⟨rfl, rfl⟩ := h9
  cases ha : btw x 1 30 with
  | false => exact And.intro (fun _ => no (by unfold okDays; rw [ha]; rfl)) (fun q => absurd rfl q)
  | true =>
    refine And.intro (fun q => absurd q (by decide)) (fun _ => ?_)
    obtain ⟨v, hv1, hv2, rfl⟩ := btw_of ha (by decide)
    have cv9 : (nI v).toNatClampNeg = v := clN (by omega)
    have g0 := h.2.2.2.1
    have e24 : gI s' 16 0 + nI 24 * nI v = nI (Nhr n + 24 * v) := by rw [g0, pk_mul, nI_add]
    refine And.intro (fun q => ?_) (fun q => ?_)
    · have q : gI s' 16 0 + nI 24 * nI v ≤ nI 9999 := q
      rw [e24, nI_leI (by omega) (by omega)] at q
      have ok : okDays n (nI v) = true := by unfold okDays; rw [ha, cv9, decide_eq_true q]; rfl
      refine mcall (x_keeps G g l (d+3) s' T n ks h.1 h.2.1 h.2.2.2 hK hz) (fun r s2 h9 => ?_)
      obtain ⟨rfl, S2, K2⟩ := h9
      have key : ∀ (m k : Nat) (p : Nws × Nat) (o3 : Option AV) (τ : AS), k + m = v → Nhr p.1 + 24 * m = Nhr n + 24 * v → yS [28, 29] aIds s' τ → XN T p.1 τ → XKp T ((n :: ks).take 20) τ → gL τ 0 29 = lN p.2 → p.2 < 2147483648 → dayN T m p = dayN T v (n, sd) → P 22 [some tX, some (iv (nI v)), some (iv (nI k)), o3] [] τ := by
        intro m
        induction m with
        | zero =>
          intro k p o3 τ hk hhr hS hX hKt hsd hlt he
          have he : p = dayN T v (n, sd) := he
          refine hP _ _ _ _ (And.intro (fun _ => ?_) (fun q => absurd (nI_le (by omega) (by omega)) q))
          show if okDays n (nI v) = true then _ else _
          rw [if_pos ok, cv9, ← he]
          refine ⟨?_, hS, hX, hKt, hsd, hlt⟩
          show some (iv (gI τ 16 0)) = _
          rw [hX.2.2.2.1, show Nhr p.1 = Nhr n + 24 * v by omega]
        | succ m ih =>
          intro k p o3 τ hk hhr hS hX hKt hsd hlt he
          have hzt : 268 ≤ zn τ := by rw [hS.2.1]; exact hz
          have hN2 : NOK T (day1 T p).1 := NOK.day h.1 hX.2.1 (by omega)
          have eh : gI τ 16 0 + nI 24 = nI (Nhr p.1 + 24) := by rw [hX.2.2.2.1, nI_add]
          have nextp : ∀ (o3 : Option AV) (u : AS), yS [28, 29] aIds s' u → XN T (day1 T p).1 u → XKp T ((n :: ks).take 20) u → gL u 0 29 = lN (day1 T p).2 → (day1 T p).2 < 2147483648 → P 49 [some tX, some (iv (nI v)), some (iv (nI k)), o3] [] u := by
            intro o3 u a1 a2 a3 a4 a5
            refine hP _ _ _ _ ?_
            show P 22 [some tX, some (iv (nI v)), some (iv (nI k + nI 1)), o3] [] u
            rw [nI_add]
            exact ih (k+1) (day1 T p) o3 u (by omega) (by rw [day1_hr]; omega) a1 a2 a3 a4 a5 he
          refine hP _ _ _ _ (And.intro (fun q => absurd q (nI_ge (by omega) (by omega))) (fun _ => ?_))
          show P 32 [some tX, some (iv (nI v)), some (iv (nI k)), o3] [] (sI τ 16 0 (gI τ 16 0 + nI 24))
          rw [eh]
          have X1 : xS [] [16] τ (sI τ 16 0 (nI (Nhr p.1 + 24))) := xS.rf.a rfl
          have N1 : XNw T (setHr p.1 (Nhr p.1 + 24)) (sI τ 16 0 (nI (Nhr p.1 + 24))) := hX.2.2.2.hr _
          have T1 := hX.2.2.1.xs X1 rfl
          have hN1 : NOK T (setHr p.1 (Nhr p.1 + 24)) := ⟨by show Nhr p.1 + 24 ≤ 9999; omega, hX.2.1.2.1, hX.2.1.2.2⟩
          have XX1 : XN T (setHr p.1 (Nhr p.1 + 24)) (sI τ 16 0 (nI (Nhr p.1 + 24))) := ⟨h.1, hN1, T1, N1⟩
          have Y1 : yS [28, 29] aIds s' (sI τ 16 0 (nI (Nhr p.1 + 24))) := hS.tr (X1.y.mono rfl (by decide))
          have K1 := hKt.ys X1.y hzt rfl rfl
          have L1 : gL (sI τ 16 0 (nI (Nhr p.1 + 24))) 0 29 = lN p.2 := hsd
          generalize sI τ 16 0 (nI (Nhr p.1 + 24)) = τ1 at *
          have hz1 : 268 ≤ zn τ1 := by rw [Y1.2.1]; exact hz
          refine hP _ _ _ _ ?_
          refine mcall (x_streetMany G g l (d+3) τ1 T T1) (fun r s3 h9 => ?_)
          obtain ⟨rfl, e9⟩ := h9
          subst e9
          by_cases hns : Tns T = 0
          · have ed : day1 T p = (setHr p.1 (Nhr p.1 + 24), p.2) := by unfold day1; rw [if_pos hns]
            refine And.intro (fun q => absurd (show nI (Tns T) = nI 0 by rw [hns]) q) (fun _ => ?_)
            exact nextp o3 s3 Y1 (by rw [ed]; exact XX1) K1 (by rw [ed]; exact L1) (by rw [ed]; exact hlt)
          · refine And.intro (fun _ => ?_) (fun q => absurd ((nI_eq (by omega) (by omega)).mp q) hns)
            refine mcall (x_streetMany G g l (d+3) s3 T T1) (fun r s4 h9 => ?_)
            obtain ⟨rfl, e9⟩ := h9
            subst e9
            refine mcall (x_draw G g l (d+4) s4 _ (Tns T) p.2 rfl (by omega) (by omega) L1 hlt) (fun r s5 h9 => ?_)
            obtain ⟨rfl, S5, L5⟩ := h9
            show P 40 [some tX, some (iv (nI v)), some (iv (nI k)), o3] [iv (nI (drawN p.2 / 64 % Tns T))] s5
            refine hP _ _ _ _ ?_
            refine mcall (x_draw G g l (d+4) s5 _ 3 (drawN p.2) rfl (by omega) (by omega) L5 (drawN_lt _)) (fun r s6 h9 => ?_)
            obtain ⟨rfl, S6, L6⟩ := h9
            have S56 := S5.tr S6
            have XX6 := XX1.xs S56 rfl rfl
            have hs9 : drawN p.2 / 64 % Tns T < Tns T := Nat.mod_lt _ (by omega)
            have hm3 : drawN (drawN p.2) / 64 % 3 < 3 := Nat.mod_lt _ (by omega)
            refine mcall (x_moves G g l d s6 T _ XX6 _ _ (drawN p.2 / 64 % Tns T) (drawN (drawN p.2) / 64 % 3) 1 rfl (show nI (drawN (drawN p.2) / 64 % 3) - nI 1 = _ from by rw [nI_zI (by omega), nI_zI (n := 1) (by omega), zI_sub]) hs9 (by omega) (by omega)) (fun r s7 h9 => ?_)
            obtain ⟨rfl, S7, N7⟩ := h9
            have ed : day1 T p = (setSh (setHr p.1 (Nhr p.1 + 24)) (drawN p.2 / 64 % Tns T) ((Nsh p.1 (drawN p.2 / 64 % Tns T) + drawN (drawN p.2) / 64 % 3 + 100 * Trd T (drawN p.2 / 64 % Tns T) - 1) % Trd T (drawN p.2 / 64 % Tns T)), drawN (drawN p.2)) := by unfold day1; rw [if_neg hns]
            have Y7 : yS [28, 29] aIds s' s7 := (Y1.tr (S56.y.mono rfl rfl)).tr (S7.y.mono rfl (by decide))
            have hz6 : 268 ≤ zn s6 := by rw [zn_of S56.2]; exact hz1
            refine nextp _ s7 Y7 ⟨h.1, hN2, XX6.2.2.1.xs S7 rfl, ?_⟩ ((K1.ys S56.y hz1 rfl rfl).ys S7.y hz6 rfl rfl) ?_ ?_
            · rw [ed]; exact N7
            · rw [ed, S7.l 0 29 rfl rfl]; exact L6
            · rw [ed]; exact drawN_lt _
      have L2 : gL s2 0 29 = lN sd := by rw [(S2.i hz 0 29 rfl (by decide) rfl).2.1]; exact hsd
      exact key v 0 (n, sd) _ s2 (by omega) rfl (S2.mono rfl (by decide)) ⟨h.1, h.2.1, h.2.2.1.ys S2 hz rfl rfl, h.2.2.2.ys S2 hz rfl⟩ K2 L2 hlt rfl
    · have q : ¬ gI s' 16 0 + nI 24 * nI v ≤ nI 9999 := q
      rw [e24, nI_leI (by omega) (by omega)] at q
      exact no (by unfold okDays; rw [ha, cv9, decide_eq_false q]; rfl)
end AE_
