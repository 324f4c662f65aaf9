section MN_
variable (G : CX) (g : GX) (l : Launch) (d : Nat) (σ : AS)
/-- the hour set -/
def setHr (n : Nws) (h : Nat) : Nws := (h, n.2)
def setSh (n : Nws) (s v : Nat) : Nws := (n.1, fun j => if j = s then v else n.2.1 j, n.2.2)
def setWk (n : Nws) (w a b f : Nat) : Nws := (n.1, n.2.1, fun j => if j = w then (a, b, f) else n.2.2 j)
def okGo (n : Nws) (x : Int32) : Bool := btw x 1 500 && decide (Nhr n + x.toNatClampNeg ≤ 9999)
theorem MNw.hr {T : Twn} {n : Nws} {σ : AS} (hT : TOK T) (h : MNw T n σ) (v : Nat) : MNw T (setHr n v) (sI σ 230 0 (nI v)) := by
  refine ⟨rfl, fun s hs => ?_, fun w hw => ?_⟩
  · rw [gI_sI, if_neg (by omega)]; exact h.2.1 s hs
  · simp only [gI_sI]
    rw [if_neg (by omega), if_neg (by omega), if_neg (by omega)]
    exact h.2.2 w hw
theorem MNw.shf {T : Twn} {n : Nws} {σ : AS} (hT : TOK T) (h : MNw T n σ) (s v : Nat) (hs : s < Tns T) : MNw T (setSh n s v) (sI σ 230 (1 + s) (nI v)) := by
  have := hT.1
  refine ⟨by rw [gI_sI, if_neg (by omega)]; exact h.1, fun j hj => ?_, fun w hw => ?_⟩
  · rw [gI_sI]
    by_cases e : j = s
    · rw [if_pos ⟨rfl, by omega⟩, e]
      unfold setSh Nsh
      simp
    · rw [if_neg (by omega), h.2.1 j hj]
      unfold setSh Nsh
      simp [e]
  · simp only [gI_sI]
    rw [if_neg (by omega), if_neg (by omega), if_neg (by omega)]
    exact h.2.2 w hw
set_option maxHeartbeats 1000000 in
theorem c_go (T : Twn) (n : Nws) (ks : List Nws) (h : TN T n σ) (hK : MKp T ks σ) (x : Int32) : MC G g l (d+2) mX6_go [tM, iv x] σ (fun r t => if okGo n x = true then (r = some (iv (nI (Nhr n + x.toNatClampNeg))) ∧ mS [63, 64] [230, 242] σ t ∧ MNw T (setHr n (Nhr n + x.toNatClampNeg)) t ∧ MKp T ((n :: ks).take 20) t) else (r = some (iv (- nI 1)) ∧ mS [] [202] σ t ∧ RefInc 2 σ t)) := by
  have hh := h.2.1.1
  refine MC1 tX6_go [14] rfl okX6_go rfl rfl rfl rfl (fun P hP => ?_)
  have no : okGo n x = false → P 14 [some tM, some (iv x)] [] σ := by
    intro e
    refine hP _ _ _ _ (And.intro (vin 2 6 rfl rfl) (And.intro (vin 2 6 rfl rfl) ?_))
    show if okGo n x = true then _ else _
    rw [if_neg (by rw [e]; decide)]
    exact ⟨rfl, mS.rf.a rfl, RefInc.mk 2 σ⟩
  refine hP _ _ _ _ ?_
  refine mcall (c_isIn G g l d σ _ _ _) (fun r s' h9 => ?_)
  obtain ⟨rfl, rfl⟩ := h9
  rw [btw_long (a := 1) (b := 500) (by decide) (by decide)]
  cases ha : btw x 1 500 with
  | false => exact And.intro (fun _ => no (by unfold okGo; rw [ha]; rfl)) (fun q => absurd rfl q)
  | true =>
    refine And.intro (fun q => absurd q (by decide)) (fun _ => ?_)
    obtain ⟨v, hv1, hv2, rfl⟩ := btw_of ha (by decide)
    have cv9 : (nI v).toNatClampNeg = v := clN (by omega)
    have g0 := h.2.2.2.1
    refine And.intro (vin 0 31 rfl rfl) (And.intro (fun q => ?_) (fun q => ?_))
    · have q : gI s' 230 0 + nI v ≤ nI 9999 := q
      rw [g0, nI_add, nI_leI (by omega) (by omega)] at q
      have ok : okGo n (nI v) = true := by unfold okGo; rw [ha, cv9, decide_eq_true q]; rfl
      refine mcall (c_keeps G g l d s' T n ks h.1 h.2.1 h.2.2.2 hK) (fun r s2 h9 => ?_)
      obtain ⟨rfl, S2, K2⟩ := h9
      have N2 := h.2.2.2.keep S2 rfl
      have S3 : mS [63, 64] [230, 242] s' s2 := S2.mono rfl rfl
      have e0 : gI s2 230 0 + nI v = nI (Nhr n + v) := by rw [N2.1, nI_add]
      refine And.intro (vin 0 31 rfl rfl) (And.intro (vin 0 31 rfl rfl) (And.intro (vin 0 31 rfl rfl) ?_))
      show if okGo n (nI v) = true then _ else _
      rw [if_pos ok, cv9]
      refine ⟨congrArg _ (congrArg _ e0), S3.a rfl, ?_, ?_⟩
      · have := N2.hr h.1 (Nhr n + v)
        rw [← e0] at this
        exact this
      · exact K2.keep (mS.a (b := 230) (k := 0) (v := gI s2 230 0 + nI v) (fs := []) (ids := [230]) mS.rf rfl) rfl rfl
    · have q : ¬ gI s' 230 0 + nI v ≤ nI 9999 := q
      rw [g0, nI_add, nI_leI (by omega) (by omega)] at q
      exact no (by unfold okGo; rw [ha, cv9, decide_eq_false q]; rfl)
theorem c_seed (x : Int32) : MC G g l (d+1) mX6_seed [tM, iv x] σ (fun r t => if 0 ≤ x then (r = some (iv (nI 1)) ∧ mS [65] [] σ t ∧ gL t 200 65 = x.toInt64) else (r = some (iv (nI 0)) ∧ mS [] [202] σ t ∧ RefInc 4 σ t)) := by
  refine MC0 tX6_seed rfl okX6_seed rfl rfl rfl rfl (fun P => ?_)
  refine And.intro (fun q => ⟨nar1, ?_⟩) (fun q => And.intro (vin 4 6 rfl rfl) (And.intro (vin 4 6 rfl rfl) ⟨nar0, ?_⟩))
  · have q : 0 ≤ x := q
    show if 0 ≤ x then _ else _
    rw [if_pos q]
    exact ⟨rfl, mS.rf.fl rfl, rfl⟩
  · have q : ¬ 0 ≤ x := q
    show if 0 ≤ x then _ else _
    rw [if_neg q]
    exact ⟨rfl, mS.rf.a rfl, RefInc.mk 4 σ⟩
/-- shifts0: shift s moved by 'up' hours forward or 'dn' back -/
theorem c_shifts0 (T : Twn) (n : Nws) (h : TN T n σ) (x y : Int32) (s up dn : Nat) (hx : x = nI s) (hy : y = nI up - nI dn) (hs : s < Tns T) (h1 : up ≤ 2) (h2 : dn ≤ 99) : MC G g l (d+2) mX6_shifts0 [tM, iv x, iv y] σ (fun r t => r = none ∧ mS [] [230] σ t ∧ MNw T (setSh n s ((Nsh n s + up + 100 * Trd T s - dn) % Trd T s)) t) := by
  subst hx; subst hy
  have h12 := h.1.1
  have hr9 := (h.1.2.1 s hs).2.2.2.2.1
  obtain ⟨e1, e2⟩ := h.sh hs
  refine MC0 tX6_shifts0 rfl okX6_shifts0 rfl rfl rfl rfl (fun P => ?_)
  refine mcall (c_shiftOf G g l d σ _ s rfl (by omega)) (fun r s' h9 => ?_)
  obtain ⟨rfl, rfl⟩ := h9
  refine mcall (c_roundOf G g l d _ T h.2.2.1 _ s rfl hs h.1) (fun r s' h9 => ?_)
  obtain ⟨rfl, rfl⟩ := h9
  refine mcall (c_roundOf G g l d _ T h.2.2.1 _ s rfl hs h.1) (fun r s' h9 => ?_)
  obtain ⟨rfl, rfl⟩ := h9
  have ev : gI s' 230 (1 + s) + (nI up - nI dn) + nI 100 * nI (Trd T s) = nI (Nsh n s + up + 100 * Trd T s - dn) := by
    have : gI s' 230 (1 + s) + (nI up - nI dn) + nI 100 * nI (Trd T s) = (gI s' 230 (1 + s) + nI up + nI 100 * nI (Trd T s)) - nI dn := by grind
    rw [this, e1, ix1, nI_add, nI_add, nI_s1 _ _ (by omega)]
  refine And.intro (nI_ne0 (by omega) (by omega)) (And.intro (show vp_in (nI 1 + nI s) 31 by rw [nI_add]; exact vinN (by omega) (by decide)) ⟨rfl, mS.rf.a rfl, ?_⟩)
  show MNw T _ (sI s' 230 (nI 1 + nI s).toNatClampNeg (gI s' 230 (1 + s) + (nI up - nI dn) + nI 100 * nI (Trd T s) - (gI s' 230 (1 + s) + (nI up - nI dn) + nI 100 * nI (Trd T s)) / nI (Trd T s) * nI (Trd T s)))
  rw [ev, pk_rem (by omega) (by omega) (by omega), nI_add, clN (by omega)]
  exact h.2.2.2.shf h.1 s _ hs
def okHold (T : Twn) (a b : Int32) : Bool := inR a (Tns T) && btw b 1 99
def holdF (T : Twn) (n : Nws) (s v : Nat) : Nat := (Nsh n s + 0 + 100 * Trd T s - v) % Trd T s
set_option maxHeartbeats 1000000 in
theorem c_hold (T : Twn) (n : Nws) (ks : List Nws) (h : TN T n σ) (hK : MKp T ks σ) (a b : Int32) : MC G g l (d+3) mX6_hold [tM, iv a, iv b] σ (fun r t => if okHold T a b = true then (r = some (iv (nI (holdF T n a.toNatClampNeg b.toNatClampNeg))) ∧ mS [63, 64] [230, 242] σ t ∧ MNw T (setSh n a.toNatClampNeg (holdF T n a.toNatClampNeg b.toNatClampNeg)) t ∧ MKp T ((n :: ks).take 20) t) else (r = some (iv (- nI 1)) ∧ mS [] [202] σ t ∧ RefInc 2 σ t)) := by
  have h12 := h.1.1
  refine MC1 tX6_hold [10] rfl okX6_hold rfl rfl rfl rfl (fun P hP => ?_)
  have no : okHold T a b = false → P 10 [some tM, some (iv a), some (iv b)] [] σ := by
    intro e
    refine hP _ _ _ _ (And.intro (vin 2 6 rfl rfl) (And.intro (vin 2 6 rfl rfl) ?_))
    show if okHold T a b = true then _ else _
    rw [if_neg (by rw [e]; decide)]
    exact ⟨rfl, mS.rf.a rfl, RefInc.mk 2 σ⟩
  refine hP _ _ _ _ ?_
  refine mcall (c_isStreet G g l d σ T a h.2.2.1 h.1) (fun r s' h9 => ?_)
  obtain ⟨rfl, rfl⟩ := h9
  cases ha : inR a (Tns T) with
  | false => exact And.intro (fun _ => no (by unfold okHold; rw [ha]; rfl)) (fun q => absurd rfl q)
  | true =>
    refine And.intro (fun q => absurd q (by decide)) (fun _ => ?_)
    refine mcall (c_isIn G g l (d+1) _ _ _ _) (fun r s' h9 => ?_)
    obtain ⟨rfl, rfl⟩ := h9
    rw [btw_long (a := 1) (b := 99) (by decide) (by decide)]
    cases hb : btw b 1 99 with
    | false => exact And.intro (fun q => absurd rfl q) (fun _ => no (by unfold okHold; rw [ha, hb]; rfl))
    | true =>
      refine And.intro (fun _ => ?_) (fun q => absurd q (by decide))
      obtain ⟨s, hs, rfl⟩ := inR_of ha (by omega)
      obtain ⟨v, hv1, hv2, rfl⟩ := btw_of hb (by decide)
      have cs : (nI s).toNatClampNeg = s := clN (by omega)
      have cv9 : (nI v).toNatClampNeg = v := clN (by omega)
      have ok : okHold T (nI s) (nI v) = true := by unfold okHold; rw [ha, hb]; rfl
      refine mcall (c_keeps G g l (d+1) _ T n ks h.1 h.2.1 h.2.2.2 hK) (fun r s2 h9 => ?_)
      obtain ⟨rfl, S2, K2⟩ := h9
      have T2 := h.keep S2 rfl rfl
      refine mcall (c_shifts0 G g l d s2 T n T2 _ _ s 0 v rfl (by show - nI v = nI 0 - nI v; rw [nI_0]; grind) hs (by omega) hv2) (fun r s3 h9 => ?_)
      obtain ⟨rfl, S3, N3⟩ := h9
      have hr9 := (h.1.2.1 s hs).2.2.2.2.1
      refine mcall (c_shiftOf G g l (d+1) s3 _ s rfl (by omega)) (fun r s4 h9 => ?_)
      obtain ⟨rfl, rfl⟩ := h9
      have e : gI s4 230 (1 + s) = nI (holdF T n s v) := by
        rw [N3.2.1 s hs]
        unfold setSh Nsh holdF
        simp
        rfl
      show if okHold T (nI s) (nI v) = true then _ else _
      rw [if_pos ok, cs, cv9, e]
      exact ⟨rfl, (S2.mono rfl rfl).tr (S3.mono rfl rfl), N3, K2.keep S3 rfl rfl⟩
end MN_
