/-! widths, in the component -/
def zI (z : Int) : Int32 := Int32.ofInt z
theorem zI_toInt {z : Int} (h1 : -1073741824 ≤ z) (h2 : z ≤ 1073741824) : (zI z).toInt = z := Int32.toInt_ofInt_of_le (by omega) (by omega)
theorem zI_sub (a b : Int) : zI a - zI b = zI (a - b) := (Int32.ofInt_sub a b).symm
theorem zI_add (a b : Int) : zI a + zI b = zI (a + b) := (Int32.ofInt_add a b).symm
theorem nI_zI {n : Nat} (h : n < 1073741824) : nI n = zI (n : Int) := by
  apply Int32.toInt_inj.mp
  rw [nI_toInt (by omega), zI_toInt (by omega) (by omega)]
theorem btw_i {p : Int32} {a b : Nat} (ha : a < 2147483648) (hb : b < 2147483648) : decide (nI a ≤ p ∧ p ≤ nI b) = btw p a b := by
  unfold btw
  apply decide_eq_decide.mpr
  rw [Int32.le_iff_toInt_le, Int32.le_iff_toInt_le, nI_toInt ha, nI_toInt hb]
/-- what a street's sum is asked of -/
def askA (T : Twn) (s sh h : Nat) (k : Nat) : Int := if k = 1 then ((h % 24 : Nat) : Int) else if k = 2 then ((h / 24 : Nat) : Int) else if k = 3 then (((h + sh) % Trd T s : Nat) : Int) else ((Trd T s : Nat) : Int)
section XW_
variable (G : CX) (g : GX) (l : Launch) (d : Nat) (σ : AS)
theorem x_btw (p x y : Int32) (a b : Nat) (hx : x = nI a) (hy : y = nI b) (ha : a < 2147483648) (hb : b < 2147483648) : MC G g l (d+1) mX0_is [iv p, iv x, iv y] σ (fun r s => r = some (iv (bI (btw p a b))) ∧ s = σ) := by
  subst hx; subst hy
  rw [← btw_i ha hb]
  exact x_is G g l d σ p (nI a) (nI b)
theorem x_isBroad (p : Int32) : MC G g l (d+2) mX0_isBroad [iv p] σ (fun r s => r = some (iv (bI (btw p 1 99))) ∧ s = σ) := by
  refine MC0 tX0_isBroad rfl okX0_isBroad rfl rfl rfl rfl (fun P => ?_)
  refine mcall (x_btw G g l d σ p _ _ 1 99 rfl rfl (by decide) (by decide)) (fun r s' h9 => ?_)
  obtain ⟨rfl, e9⟩ := h9
  exact ⟨nar_bI _, rfl, e9⟩
theorem inR_i {p : Int32} {n : Nat} (hn : n < 1000000) : (p < nI 0 → inR p n = false) ∧ (nI n ≤ p → inR p n = false) ∧ (¬ p < nI 0 → ¬ nI n ≤ p → inR p n = true) := by
  have e0 : (nI 0).toInt = 0 := rfl
  refine ⟨fun h => ?_, fun h => ?_, fun h h2 => ?_⟩
  · rw [Int32.lt_iff_toInt_lt, e0] at h
    exact decide_eq_false (by omega)
  · rw [Int32.le_iff_toInt_le, nI_toInt (by omega)] at h
    exact decide_eq_false (by omega)
  · rw [Int32.lt_iff_toInt_lt, e0] at h
    rw [Int32.le_iff_toInt_le, nI_toInt (by omega)] at h2
    exact decide_eq_true (by omega)
theorem x_isStreet (T : Twn) (p : Int32) (h : XTn T σ) (hT : TOK T) : MC G g l (d+3) mX0_isStreet [tX, iv p] σ (fun r s => r = some (iv (bI (inR p (Tns T)))) ∧ s = σ) := by
  have hn := hT.1
  obtain ⟨i1, i2, i3⟩ := inR_i (p := p) (n := Tns T) (by omega)
  refine MC0 tX0_isStreet rfl okX0_isStreet rfl rfl rfl rfl (fun P => And.intro (fun q => ⟨nar0, by rw [i1 q]; rfl, rfl⟩) (fun q => ?_))
  refine mcall (x_streetMany G g l d σ T h) (fun r s1 h9 => ?_)
  obtain ⟨rfl, e9⟩ := h9
  subst e9
  exact And.intro (fun q2 => ⟨nar0, by rw [i2 q2]; rfl, rfl⟩) (fun q2 => ⟨nar1, by rw [i3 q q2]; rfl, rfl⟩)
theorem x_isPlace (T : Twn) (p : Int32) (h : XTn T σ) (hT : TOK T) : MC G g l (d+3) mX0_isPlace [tX, iv p] σ (fun r s => r = some (iv (bI (inR p (Tnp T)))) ∧ s = σ) := by
  have hn := hT.1
  obtain ⟨i1, i2, i3⟩ := inR_i (p := p) (n := Tnp T) (by omega)
  refine MC0 tX0_isPlace rfl okX0_isPlace rfl rfl rfl rfl (fun P => And.intro (fun q => ⟨nar0, by rw [i1 q]; rfl, rfl⟩) (fun q => ?_))
  refine mcall (x_placeMany G g l d σ T h) (fun r s1 h9 => ?_)
  obtain ⟨rfl, e9⟩ := h9
  subst e9
  exact And.intro (fun q2 => ⟨nar0, by rw [i2 q2]; rfl, rfl⟩) (fun q2 => ⟨nar1, by rw [i3 q q2]; rfl, rfl⟩)
theorem x_isWalker (T : Twn) (p : Int32) (h : XTn T σ) (hT : TOK T) : MC G g l (d+3) mX0_isWalker [tX, iv p] σ (fun r s => r = some (iv (bI (inR p (Tnw T)))) ∧ s = σ) := by
  have hn := hT.1
  obtain ⟨i1, i2, i3⟩ := inR_i (p := p) (n := Tnw T) (by omega)
  refine MC0 tX0_isWalker rfl okX0_isWalker rfl rfl rfl rfl (fun P => And.intro (fun q => ⟨nar0, by rw [i1 q]; rfl, rfl⟩) (fun q => ?_))
  refine mcall (x_walkerMany G g l d σ T h) (fun r s1 h9 => ?_)
  obtain ⟨rfl, e9⟩ := h9
  subst e9
  exact And.intro (fun q2 => ⟨nar0, by rw [i2 q2]; rfl, rfl⟩) (fun q2 => ⟨nar1, by rw [i3 q q2]; rfl, rfl⟩)
theorem x_tide (T : Twn) (h : XTn T σ) (hT : TOK T) (x y z : Int32) (s hr sh : Nat) (hx : x = nI s) (hy : y = nI sh) (hz : z = nI hr) (hs : s < Tns T) (h1 : hr ≤ 1000000) (h2 : sh ≤ 1000) : MC G g l (d+5) mX0_tide [tX, iv x, iv y, iv z] σ (fun r t => r = some (iv (nI ((hr + sh) % Trd T s))) ∧ t = σ) := by
  subst hx; subst hy; subst hz
  have hr9 := (hT.2.1 s hs).2.2.2.2.1
  refine MC1 tX0_tide [6] rfl okX0_tide rfl rfl rfl rfl (fun P hP => ?_)
  refine hP _ _ _ _ (hP _ _ _ _ (at_street T rfl h rfl rfl hs rfl (fun c hc => ?_)))
  refine grd (b := isOb (kd true σ c) _) (by rw [hc.1]; rfl) ?_
  have e : gI σ c 4 = nI (Trd T s) := hc.2.2.2.2.1
  refine And.intro (show ¬ gI σ c 4 = 0 from by rw [e]; exact nI_ne0 (by omega) (by omega)) ⟨?_, rfl⟩
  show some (iv (nI hr + nI sh - (nI hr + nI sh) / gI σ c 4 * gI σ c 4)) = _
  rw [e, nI_add, pk_rem (by omega) (by omega) (by omega)]
theorem stepR_O {ev : Nat → Nat} {c : Nat} {a b : Int} {st : List Int} (h1 : 1 ≤ c) (h2 : c ≤ 6) : stepR ev c (b :: a :: st) = opZ c a b :: st := by
  unfold stepR
  rw [if_neg (by omega), if_neg (by omega)]
set_option maxHeartbeats 1000000 in
theorem x_widthBy (T : Twn) (h : XTn T σ) (hT : TOK T) (x y z : Int32) (s hr sh : Nat) (hx : x = nI s) (hy : y = nI sh) (hz : z = nI hr) (hs : s < Tns T) (h1 : hr ≤ 1000000) (h2 : sh ≤ 1000) :
    MC G g l (d+50) mX0_widthBy [tX, iv x, iv y, iv z] σ (fun r t => r = some (iv (nI (wid T s sh hr))) ∧ xS [] [14] σ t) := by
  subst hx; subst hy; subst hz
  have hr9 := (hT.2.1 s hs).2.2.2.2.1
  refine MC1 tX0_widthBy [9, 18, 26, 36, 45, 49] rfl okX0_widthBy rfl rfl rfl rfl (fun P hP => ?_)
  refine hP _ _ _ _ ?_
  refine And.intro (show ¬ nI 24 = 0 by decide) (And.intro (vin 1 5 rfl rfl) ?_)
  generalize hσ1 : sL σ 14 1 (nI hr - nI hr / nI 24 * nI 24).toInt64 = σ1
  show P 9 [some tX, some (iv (nI s)), some (iv (nI sh)), some (iv (nI hr))] [] (sL σ 14 1 (nI hr - nI hr / nI 24 * nI 24).toInt64)
  rw [hσ1]
  have S1 : xS [] [14] σ σ1 := by rw [← hσ1]; exact xS.rf.al rfl
  have A1 : gL σ1 14 1 = zL ((hr % 24 : Nat) : Int) := by
    rw [← hσ1, gL_sL, if_pos ⟨rfl, rfl⟩, pk_rem (by omega) (by omega) (by omega), nI_zL (by omega)]
  refine hP _ _ _ _ ?_
  refine And.intro (show ¬ nI 24 = 0 by decide) (And.intro (vin 2 5 rfl rfl) ?_)
  generalize hσ2 : sL σ1 14 2 (nI hr / nI 24).toInt64 = σ2
  show P 18 [some tX, some (iv (nI s)), some (iv (nI sh)), some (iv (nI hr))] [] (sL σ1 14 2 (nI hr / nI 24).toInt64)
  rw [hσ2]
  have S2 : xS [] [14] σ σ2 := by rw [← hσ2]; exact S1.al rfl
  have B1 : gL σ2 14 1 = zL ((hr % 24 : Nat) : Int) := by rw [← hσ2, gL_sL, if_neg (by omega), A1]
  have B2 : gL σ2 14 2 = zL ((hr / 24 : Nat) : Int) := by
    rw [← hσ2, gL_sL, if_pos ⟨rfl, rfl⟩, pk_div (by omega) (by omega) (by omega), nI_zL (by omega)]
  refine hP _ _ _ _ (hP _ _ _ _ ?_)
  refine mcall (x_tide G g l (d+44) σ2 T (h.xs S2 rfl) hT _ _ _ s hr sh rfl rfl rfl hs h1 h2) (fun r s' h9 => ?_)
  obtain ⟨rfl, e9⟩ := h9
  subst e9
  refine And.intro (vin 3 5 rfl rfl) ?_
  generalize hσ3 : sL s' 14 3 (nI ((hr + sh) % Trd T s)).toInt64 = σ3
  show P 36 [some tX, some (iv (nI s)), some (iv (nI sh)), some (iv (nI hr))] [iv (nI s), rw_ (gR true (sL s' 14 3 (nI ((hr + sh) % Trd T s)).toInt64) 0 0), iv (nI 4), rf 14] (sL s' 14 3 (nI ((hr + sh) % Trd T s)).toInt64)
  rw [hσ3]
  have hmod : (hr + sh) % Trd T s < 48 := Nat.lt_of_lt_of_le (Nat.mod_lt _ (by omega)) hr9.2
  have S3 : xS [] [14] σ σ3 := by rw [← hσ3]; exact S2.al rfl
  have C1 : gL σ3 14 1 = zL ((hr % 24 : Nat) : Int) := by rw [← hσ3, gL_sL, if_neg (by omega), B1]
  have C2 : gL σ3 14 2 = zL ((hr / 24 : Nat) : Int) := by rw [← hσ3, gL_sL, if_neg (by omega), B2]
  have C3 : gL σ3 14 3 = zL (((hr + sh) % Trd T s : Nat) : Int) := by
    rw [← hσ3, gL_sL, if_pos ⟨rfl, rfl⟩, nI_zL (by omega)]
  refine hP _ _ _ _ (at_street T rfl (h.xs S3 rfl) rfl rfl hs rfl (fun c hc => ?_))
  refine grd (b := isOb (kd true σ3 c) _) (by rw [hc.1]; rfl) ?_
  have e : gI σ3 c 4 = nI (Trd T s) := hc.2.2.2.2.1
  refine And.intro (vin 4 5 rfl rfl) ?_
  generalize hσ4 : sL σ3 14 4 (gI σ3 c 4).toInt64 = σ4
  show P 45 [some tX, some (iv (nI s)), some (iv (nI sh)), some (iv (nI hr))] [iv (nI s), rw_ (gR true (sL σ3 14 4 (gI σ3 c 4).toInt64) 0 0), jv (lN 99), jv (lN 0)] (sL σ3 14 4 (gI σ3 c 4).toInt64)
  rw [hσ4]
  have S4 : xS [] [14] σ σ4 := by rw [← hσ4]; exact S3.al rfl
  have D1 : gL σ4 14 1 = zL ((hr % 24 : Nat) : Int) := by rw [← hσ4, gL_sL, if_neg (by omega), C1]
  have D2 : gL σ4 14 2 = zL ((hr / 24 : Nat) : Int) := by rw [← hσ4, gL_sL, if_neg (by omega), C2]
  have D3 : gL σ4 14 3 = zL (((hr + sh) % Trd T s : Nat) : Int) := by rw [← hσ4, gL_sL, if_neg (by omega), C3]
  have D4 : gL σ4 14 4 = zL ((Trd T s : Nat) : Int) := by rw [← hσ4, gL_sL, if_pos ⟨rfl, rfl⟩, e, nI_zL (by omega)]
  refine hP _ _ _ _ (at_street T rfl (h.xs S4 rfl) rfl rfl hs rfl (fun c2 hc2 => ?_))
  refine grd (b := isOb (kd true σ4 c2) _) (by rw [hc2.1]; rfl) ?_
  show P 49 [some tX, some (iv (nI s)), some (iv (nI sh)), some (iv (nI hr))] [rf 13, rw_ (gR true σ4 c2 6), jv (lN 99), jv (lN 0)] σ4
  obtain ⟨v, hv, hV⟩ := hc2.2.2.2.2.2.2
  have hA : ∀ k, askOK false k → mid (askA T s sh hr k) := by
    intro k hk
    have hd : hr / 24 ≤ hr := Nat.div_le_self _ _
    have hm : hr % 24 < 24 := Nat.mod_lt _ (by omega)
    unfold askA mid
    split
    · omega
    · split
      · omega
      · split <;> omega
  obtain ⟨b1, m1, w1, kk1, l1, mw1, ev1, K1⟩ := x_at G g l (d+1) false 13 (zn σ4) (stepR (envW T s sh hr)) (askA T s sh hr) (fun _ z => z) (fun s t => t = s) (fun s => s = σ4) (Or.inr rfl) (fun _ => rfl) (fun _ _ _ h1 h2 => h2.trans h1) (fun _ _ h => by subst h; exact agr.rf) (fun _ _ h1 h2 => h1.trans h2)
    (fun s' k hs' hk => by
      subst hs'
      refine ⟨?_, mid_in (hA k hk)⟩
      have hk : 1 ≤ k ∧ k ≤ 4 := hk
      have : k = 1 ∨ k = 2 ∨ k = 3 ∨ k = 4 := by omega
      rcases this with rfl | rfl | rfl | rfl
      · exact D1
      · exact D2
      · exact D3
      · exact D4)
    (fun n st hn => by
      unfold stepR
      rw [if_pos (by omega), show 1000 + n - 1000 = n by omega])
    (fun k st hk => by
      rw [clip_mid (hA k hk)]
      have hk : 1 ≤ k ∧ k ≤ 4 := hk
      have : k = 1 ∨ k = 2 ∨ k = 3 ∨ k = 4 := by omega
      rcases this with rfl | rfl | rfl | rfl <;> rfl)
    (fun c a b st hc1 hc2 => stepR_O hc1 hc2) (fun k a st hq => by cases hq) (fun hq => by cases hq) 40 σ4 v (Tcd T s) hV rfl
  refine hP _ _ _ _ (sv1 rfl hv kk1 l1 rfl (mcall (d := d + 49) K1 (fun r s2 h9 => ?_)))
  obtain ⟨rfl, e9⟩ := h9
  subst e9
  have hz1 := mid_in mw1
  have hz99 : inZ 99 := ⟨by omega, by omega⟩
  refine mcall (j_minL G g l (d+48) s2 _ _ 99 w1 rfl rfl hz99 hz1) (fun r s3 h9 => ?_)
  obtain ⟨rfl, e9⟩ := h9
  subst e9
  refine mcall (j_maxL G g l (d+48) s3 _ _ 0 (if w1 < 99 then w1 else 99) rfl rfl ⟨by omega, by omega⟩ (by split; exact hz1; exact hz99)) (fun r s4 h9 => ?_)
  obtain ⟨rfl, e9⟩ := h9
  subst e9
  refine ⟨?_, S4⟩
  have hw : wid T s sh hr = clamp99 w1 := by
    unfold wid
    rw [evalR_S, ev1]
    rfl
  show some (iv (zL (if 0 < (if w1 < 99 then w1 else 99) then (if w1 < 99 then w1 else 99) else 0)).toInt32) = _
  have hc : (if 0 < (if w1 < 99 then w1 else 99) then (if w1 < 99 then w1 else 99) else 0) = ((clamp99 w1 : Nat) : Int) := by
    unfold clamp99
    (repeat' split) <;> omega
  rw [hc, zL_i (by have := clamp99_le w1; omega), hw]
theorem x_widthIn (T : Twn) (n : Nws) (h : XN T n σ) (x y : Int32) (s hr : Nat) (hx : x = nI s) (hy : y = nI hr) (hs : s < Tns T) (h1 : hr ≤ 1000000) :
    MC G g l (d+51) mX0_widthIn [tX, iv x, iv y] σ (fun r t => r = some (iv (nI (wid T s (Nsh n s) hr))) ∧ xS [] [14] σ t) := by
  subst hx; subst hy
  have hn := h.1.1
  have hr9 := (h.1.2.1 s hs).2.2.2.2.1
  have hsh := h.2.1.2.1 s hs
  refine MC0 tX0_widthIn rfl okX0_widthIn rfl rfl rfl rfl (fun P => ?_)
  refine And.intro (show vp_in (nI s) 12 from vinN (by omega) (by decide)) ?_
  refine mcall (x_widthBy G g l d σ T h.2.2.1 h.1 _ _ _ s hr (Nsh n s) rfl (show gI σ 17 (nI s).toNatClampNeg = nI (Nsh n s) from by rw [clN (by omega)]; exact h.2.2.2.2.1 s hs) rfl hs h1 (by omega)) (fun r s1 h9 => ?_)
  obtain ⟨rfl, e9⟩ := h9
  exact ⟨rfl, e9⟩
end XW_
