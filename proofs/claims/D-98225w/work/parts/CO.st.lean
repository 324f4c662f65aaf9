section SO_
variable (G : CX) (g : GX) (l : Launch) (d : Nat) (σ : AS)
theorem x_isOn (T : Twn) (n : Nws) (h : XN T n σ) (src : Nat) (hM : XTg T (SD T n src) σ) (x y : Int32) (s p : Nat) (hx : x = nI s) (hy : y = nI p) (hs : s < Tns T) (hp : p < Tnp T) (hne : SD T n src p ≠ NV) :
    MC G g l (d+5) mX0_isOn [tX, iv x, iv y] σ (fun r t => (∃ bb : Bool, r = some (iv (bI bb)) ∧ (bb = true ↔ ∃ q, otherF T s p = some q ∧ backOK T n [] 99 0 (SD T n src) p s q)) ∧ t = σ) := by
  subst hx; subst hy
  have h12 := h.1.1
  have hT := h.1
  have hl := SD_36 h.1 hp hne
  have ht := (hT.2.1 s hs).2.2.2.1
  have vpp : vp_in (nI p) 9 := vinN (by omega) (by decide)
  have gp : gI σ 62 (nI p).toNatClampNeg = nI (SD T n src p) := by rw [clN (by omega), hM p hp, fN_of hne]
  refine MC1 tX0_isOn [3, 6, 17, 27] rfl okX0_isOn rfl rfl rfl rfl (fun P hP => ?_)
  refine hP _ _ _ _ (hP _ _ _ _ (at_street T rfl h.2.2.1 rfl rfl hs rfl (fun c hc => ?_)))
  refine grd (b := Nat.beq (kd true σ c).1 0) (by rw [hc.1]; rfl) ?_
  rw [show kdA (true, g) σ (.inl c) = (0, 8) from hc.1]
  refine mcall (x_other G g l (d+3) σ T hT s c hc _ p rfl hs (by omega)) (fun r s1 h9 => ?_)
  obtain ⟨rfl, e9⟩ := h9
  subst e9
  show P 6 [some tX, some (iv (nI s)), some (iv (nI p)), none] [iv (optI (otherF T s p))] s1
  have no : ∀ (o3 : Option AV), (¬ ∃ q, otherF T s p = some q ∧ backOK T n [] 99 0 (SD T n src) p s q) → P 27 [some tX, some (iv (nI s)), some (iv (nI p)), o3] [] s1 := by
    intro o3 hno
    exact hP _ _ _ _ ⟨nar0, ⟨false, rfl, ⟨fun z => (by cases z), fun z => absurd z hno⟩⟩, rfl⟩
  cases ho : otherF T s p with
  | none =>
    refine hP _ _ _ _ ?_
    refine And.intro (fun _ => ?_) (fun q => absurd rfl q)
    exact no _ (fun z => by obtain ⟨q, z1, -⟩ := z; rw [ho] at z1; cases z1)
  | some q =>
    have hq := (other_np hT hs ho).1
    have hq9 := (SD_is T n src).2 q
    have f9 := fN_le hq9
    have gq : gI s1 62 (nI q).toNatClampNeg = nI (fN (SD T n src q)) := by rw [clN (by omega), hM q hq]
    have ex : (∃ q', otherF T s p = some q' ∧ backOK T n [] 99 0 (SD T n src) p s q') ↔ backOK T n [] 99 0 (SD T n src) p s q := by
      constructor
      · intro z
        obtain ⟨q', z1, z2⟩ := z
        rw [ho] at z1
        cases z1
        exact z2
      · intro z
        exact ⟨q, ho, z⟩
    have hok := SD_ok (n := n) (src := src) (p := p) (q := q) (s := s) hT hs (by omega) hq9
    refine hP _ _ _ _ ?_
    refine And.intro (fun z => absurd z (nI_neg1 (by omega))) (fun _ => And.intro (show vp_in (nI q) 9 from vinN (by omega) (by decide)) ?_)
    refine hP _ _ _ _ (at_street T rfl h.2.2.1 rfl rfl hs rfl (fun c3 hc3 => ?_))
    refine grd (b := isOb (kd true s1 c3) _) (by rw [hc3.1]; rfl) ?_
    refine And.intro vpp (And.intro (fun e => ?_) (fun e => ?_))
    · have e : ¬ gI s1 62 (nI q).toNatClampNeg + gI s1 c3 3 = gI s1 62 (nI p).toNatClampNeg := e
      rw [gq, gp, hc3.2.2.2.1, nI_add, nI_eq (by omega) (by omega)] at e
      refine no _ (fun z => e ?_)
      have z := hok.mp (ex.mp z)
      rw [fN_of (by unfold NV; omega)]
      exact z
    · have e : gI s1 62 (nI q).toNatClampNeg + gI s1 c3 3 = gI s1 62 (nI p).toNatClampNeg := e
      rw [gq, gp, hc3.2.2.2.1, nI_add, nI_eq (by omega) (by omega)] at e
      have hqn : SD T n src q ≠ NV := fun z => by rw [z, fN_NV] at e; omega
      rw [fN_of hqn] at e
      exact ⟨nar1, ⟨true, rfl, ⟨fun _ => ex.mpr (hok.mpr e), fun _ => rfl⟩⟩, rfl⟩
theorem x_narrowIn (T : Twn) (n : Nws) (h : XN T n σ) (x y z : Int32) (s b hr : Nat) (hx : x = nI s) (hy : y = nI b) (hz : z = nI hr) (hs : s < Tns T) (hb : b ≤ 1000) (h1 : hr ≤ 900000) :
    MC G g l (d+52) mX0_narrowIn [tX, iv x, iv y, iv z] σ (fun r t => r = some (iv (optI (narF T n s b hr))) ∧ xS [] [14] σ t) := by
  subst hx; subst hy; subst hz
  have h12 := h.1.1
  have ht := (h.1.2.1 s hs).2.2.2.1
  refine MC1 tX0_narrowIn [2, 7] rfl okX0_narrowIn rfl rfl rfl rfl (fun P hP => ?_)
  have key : ∀ (m k : Nat) (t : AS), k + m = hr + Ttk T s → xS [] [14] σ t → narF T n s b hr = firstF (fun k => decide (wid T s (Nsh n s) k < b)) m k → P 2 [some tX, some (iv (nI s)), some (iv (nI b)), some (iv (nI hr)), some (iv (nI k))] [] t := by
    intro m
    induction m with
    | zero =>
      intro k t hm hS hf
      refine hP _ _ _ _ (hP _ _ _ _ (at_street T rfl (h.2.2.1.xs hS rfl) rfl rfl hs rfl (fun c hc => ?_)))
      refine grd (b := isOb (kd true t c) _) (by rw [hc.1]; rfl) ?_
      refine And.intro (fun _ => ⟨by rw [hf]; rfl, hS⟩) (fun q => absurd (show nI hr + gI t c 3 ≤ nI k from by rw [hc.2.2.2.1, nI_add, nI_leI (by omega) (by omega)]; omega) q)
    | succ m ih =>
      intro k t hm hS hf
      refine hP _ _ _ _ (hP _ _ _ _ (at_street T rfl (h.2.2.1.xs hS rfl) rfl rfl hs rfl (fun c hc => ?_)))
      refine grd (b := isOb (kd true t c) _) (by rw [hc.1]; rfl) ?_
      refine And.intro (fun q => absurd (show nI hr + gI t c 3 ≤ nI k from q) (by rw [hc.2.2.2.1, nI_add, nI_leI (by omega) (by omega)]; omega)) (fun _ => ?_)
      refine mcall (x_widthIn G g l d t T n (h.xs hS rfl rfl) _ _ s k rfl rfl hs (by omega)) (fun r s1 h9 => ?_)
      obtain ⟨rfl, e9⟩ := h9
      have hS2 := hS.tr e9
      have hw := wid_le T s (Nsh n s) k
      refine And.intro (fun q => ?_) (fun q => ⟨?_, hS2⟩)
      · have q : nI b ≤ nI (wid T s (Nsh n s) k) := q
        rw [nI_leI (by omega) (by omega)] at q
        show P 2 [some tX, some (iv (nI s)), some (iv (nI b)), some (iv (nI hr)), some (iv (nI k + nI 1))] [] s1
        rw [nI_add]
        refine ih (k+1) s1 (by omega) hS2 ?_
        rw [hf]
        conv => lhs; unfold firstF
        rw [if_neg (by rw [decide_eq_false (by omega)]; decide)]
      · have q : ¬ nI b ≤ nI (wid T s (Nsh n s) k) := q
        rw [nI_leI (by omega) (by omega)] at q
        rw [hf]
        unfold firstF
        rw [if_pos (decide_eq_true (by omega))]
        rfl
  refine hP _ _ _ _ ?_
  exact key (Ttk T s) hr σ rfl xS.rf rfl
set_option maxHeartbeats 2000000 in
theorem x_stuck (T : Twn) (n : Nws) (h : XN T n σ) (a b : Int32) : MC G g l (d+53) mX0_stuck [tX, iv a, iv b] σ (fun r t => r = some (iv (q_stuck T n a b)) ∧ xS [] [14, 62] σ t) := by
  have h12 := h.1.1
  have hh := h.2.1.1
  have hT := h.1
  refine MC1 tX0_stuck [9, 36, 45, 55, 58, 64, 75, 82, 89] rfl okX0_stuck rfl rfl rfl rfl (fun P hP => ?_)
  have no : ¬ okStk T n a b → P 9 [some tX, some (iv a), some (iv b), none, none, none, none, none] [] σ := by
    intro e
    exact hP _ _ _ _ ⟨by unfold q_stuck; rw [if_neg e], xS.rf⟩
  refine hP _ _ _ _ ?_
  refine mcall (x_isWalker G g l (d+49) σ T a h.2.2.1 h.1) (fun r s' h9 => ?_)
  obtain ⟨rfl, rfl⟩ := h9
  cases ha : inR a (Tnw T) with
  | false => exact And.intro (fun _ => no (fun e => by have e1 := e.1; rw [ha] at e1; cases e1)) (fun q => absurd rfl q)
  | true =>
    refine And.intro (fun q => absurd q (by decide)) (fun _ => ?_)
    refine mcall (x_btw G g l (d+51) _ b _ _ 0 1 rfl rfl (by decide) (by decide)) (fun r s' h9 => ?_)
    obtain ⟨rfl, rfl⟩ := h9
    cases hb : btw b 0 1 with
    | false => exact And.intro (fun q => absurd rfl q) (fun _ => no (fun e => by have e1 := e.2.1; rw [hb] at e1; cases e1))
    | true =>
      refine And.intro (fun _ => ?_) (fun q => absurd q (by decide))
      obtain ⟨w, hw, rfl⟩ := inR_of ha (by omega)
      have cw : (nI w).toNatClampNeg = w := clN (by omega)
      have hat := at_np h.1 h.2.1 hw
      have hbr := (h.1.2.2 w hw).1
      have hse := Nset_le h.2.1 hw
      have vp6 : vp_in (nI w) 6 := vinN (by omega) (by decide)
      have eat : ∀ u, xS [] [14, 62] s' u → gI u 18 (nI w).toNatClampNeg = nI (Nat_ n w) := fun u hu => by rw [cw, hu.ia 18 rfl rfl]; exact (h.2.2.2.2.2 w hw).1
      have eto : ∀ u, xS [] [14, 62] s' u → gI u 19 (nI w).toNatClampNeg = nI (Nto n w) := fun u hu => by rw [cw, hu.ia 19 rfl rfl]; exact (h.2.2.2.2.2 w hw).2.1
      refine And.intro vp6 ?_
      refine mcall (x_shortest G g l (d+47) _ T n h _ (Nat_ n w) (eat s' xS.rf) hat.1) (fun r s1 h9 => ?_)
      obtain ⟨rfl, S1, M1⟩ := h9
      have S1' : xS [] [14, 62] s' s1 := S1.mono rfl rfl
      refine And.intro vp6 ?_
      have hg9 := (SD_is T n (Nat_ n w)).2 (Nto n w)
      have fg9 := fN_le hg9
      have key : okStk T n (nI w) b → ∀ (m p : Nat) (x3 : Int32) (o : Option (Nat × Nat)) (x6 x7 : Option AV) (τ : AS), x3 = nI p → cntN (Tnp T) (SD T n (Nat_ n w)) (SD T n (Nat_ n w) p) < m → p < Tnp T → SD T n (Nat_ n w) p ≠ NV → xS [] [14, 62] s' τ → XTg T (SD T n (Nat_ n w)) τ → stuckL T n (Tbr T w) (Nset n w) (wayF T n [] 99 0 (SD T n (Nat_ n w)) (Nat_ n w) m p) o = stkF T n w →
          P 36 [some tX, some (iv (nI w)), some (iv b), some (iv x3), some (iv (fstI o)), some (iv (sndI o)), x6, x7] [] τ := by
        intro ok m
        induction m with
        | zero => intro p x3 o x6 x7 τ hx3 hc; exact absurd hc (Nat.not_lt_zero _)
        | succ m ih =>
          intro p x3 o x6 x7 τ hx3 hc hp hne hS hM he
          subst hx3
          have hXN := h.xs hS rfl rfl
          refine hP _ _ _ _ (And.intro vp6 ?_)
          refine And.intro (fun e => ?_) (fun e => ?_)
          · have e : nI p = gI τ 18 (nI w).toNatClampNeg := e
            rw [eat τ hS, nI_eq (by omega) (by omega)] at e
            have ew : wayF T n [] 99 0 (SD T n (Nat_ n w)) (Nat_ n w) (m+1) p = [] := by unfold wayF; rw [if_pos e]
            rw [ew] at he
            have he : o = stkF T n w := he
            subst he
            have eq : q_stuck T n (nI w) b = if b = nI 0 then fstI (stkF T n w) else sndI (stkF T n w) := by
              unfold q_stuck
              rw [if_pos ok, cw]
            refine And.intro (fun q => ⟨?_, hS⟩) (fun q => ⟨?_, hS⟩)
            · rw [eq, if_neg q]
            · rw [eq, if_pos q]
          · have e : ¬ nI p = gI τ 18 (nI w).toNatClampNeg := e
            rw [eat τ hS, nI_eq (by omega) (by omega)] at e
            obtain ⟨s, q, b1, b2, b3, b4, b5, b6⟩ := SD_back h.1 hp hne e
            have ht := (h.1.2.1 s b2).2.2.2.1
            have hq36 := SD_36 h.1 b3 b4
            have hcq := cntN_lt (m := Tnp T) (A := SD T n (Nat_ n w)) (p := p) (q := q) b3 (by omega)
            have ew : wayF T n [] 99 0 (SD T n (Nat_ n w)) (Nat_ n w) (m+1) p = (s, SD T n (Nat_ n w) q) :: wayF T n [] 99 0 (SD T n (Nat_ n w)) (Nat_ n w) m q := by
              conv => lhs; unfold wayF
              rw [if_neg e, b1]
            rw [ew] at he
            have he : stuckL T n (Tbr T w) (Nset n w) (wayF T n [] 99 0 (SD T n (Nat_ n w)) (Nat_ n w) m q) (orS (narF T n s (Tbr T w) (Nset n w + SD T n (Nat_ n w) q)) s o) = stkF T n w := he
            obtain ⟨x1, x2, x3, x4, x5⟩ := backF_is _ _ _ b1
            have x4 : backOK T n [] 99 0 (SD T n (Nat_ n w)) p s q := x4
            have seek : ∀ (j i : Nat) (x7 : Option AV), i + j = s → backF T n [] 99 0 (SD T n (Nat_ n w)) p (Tns T - i) i = some (s, q, SD T n (Nat_ n w) q) → P 45 [some tX, some (iv (nI w)), some (iv b), some (iv (nI p)), some (iv (fstI o)), some (iv (sndI o)), some (iv (nI i)), x7] [] τ := by
              intro j
              induction j with
              | zero =>
                intro i x7 hj hbk
                have es : i = s := by omega
                subst es
                refine hP _ _ _ _ ?_
                refine mcall (x_isOn G g l (d+47) τ T n hXN (Nat_ n w) hM _ _ i p rfl rfl b2 hp hne) (fun r s2 h9 => ?_)
                obtain ⟨⟨bb, rfl, hbb⟩, e9⟩ := h9
                subst e9
                have ebb : bb = true := hbb.mpr ⟨q, b5, x4⟩
                subst ebb
                refine And.intro (fun _ => ?_) (fun z => absurd z (by decide))
                refine hP _ _ _ _ (at_street T rfl hXN.2.2.1 rfl rfl b2 rfl (fun c hc => ?_))
                refine grd (b := Nat.beq (kd true s2 c).1 0) (by rw [hc.1]; rfl) ?_
                rw [show kdA (true, g) s2 (.inl c) = (0, 8) from hc.1]
                refine mcall (x_other G g l (d+51) s2 T hT i c hc _ p rfl b2 (by omega)) (fun r s3 h9 => ?_)
                obtain ⟨rfl, e9⟩ := h9
                subst e9
                rw [b5]
                show P 58 [some tX, some (iv (nI w)), some (iv b), some (iv (nI p)), some (iv (fstI o)), some (iv (sndI o)), some (iv (nI i)), x7] [iv (nI q)] s3
                refine hP _ _ _ _ ?_
                refine hP _ _ _ _ (at_walker T rfl hXN.2.2.1 rfl rfl hw rfl (fun c3 hc3 => ?_))
                refine grd (b := isOb (kd true s3 c3) _) (by rw [hc3.1]; rfl) ?_
                refine mcall (x_start G g l (d+50) s3 T n hXN _ w rfl hw) (fun r s4 h9 => ?_)
                obtain ⟨rfl, e9⟩ := h9
                subst e9
                have gq : gI s4 62 (nI q).toNatClampNeg = nI (SD T n (Nat_ n w) q) := by rw [clN (by omega), hM q b3, fN_of b4]
                refine And.intro (show vp_in (nI q) 9 from vinN (by omega) (by decide)) ?_
                refine mcall (x_narrowIn G g l d s4 T n hXN _ _ _ i (Tbr T w) (Nset n w + SD T n (Nat_ n w) q) rfl hc3.2.1 (show nI (Nset n w) + gI s4 62 (nI q).toNatClampNeg = _ from by rw [gq, nI_add]) b2 (by omega) (by omega)) (fun r s5 h9 => ?_)
                obtain ⟨rfl, S5⟩ := h9
                have hS5 := hS.tr (S5.mono (fs' := []) (ids' := [14, 62]) rfl rfl)
                have hM5 := hM.xs S5 rfl
                show P 75 [some tX, some (iv (nI w)), some (iv b), some (iv (nI q)), some (iv (fstI o)), some (iv (sndI o)), some (iv (nI i)), x7] [iv (optI (narF T n i (Tbr T w) (Nset n w + SD T n (Nat_ n w) q)))] s5
                cases hna : narF T n i (Tbr T w) (Nset n w + SD T n (Nat_ n w) q) with
                | none =>
                  rw [hna] at he
                  refine hP _ _ _ _ ?_
                  refine And.intro (fun _ => ?_) (fun z => absurd rfl z)
                  refine hP _ _ _ _ ?_
                  refine And.intro (fun _ => ?_) (fun z => absurd rfl z)
                  refine hP _ _ _ _ ?_
                  exact ih q _ o _ _ s5 rfl (by omega) b3 b4 hS5 hM5 he
                | some hn =>
                  rw [hna] at he
                  have hn9 : hn < 1000000 := by
                    have ff : ∀ (f : Nat → Bool) (m k v : Nat), firstF f m k = some v → v < k + m := by
                      intro f m
                      induction m with
                      | zero => intro k v hv; cases hv
                      | succ m ihm =>
                        intro k v hv
                        unfold firstF at hv
                        split at hv
                        · cases hv; omega
                        · have := ihm (k+1) v hv; omega
                    have := ff _ _ _ _ hna
                    omega
                  refine hP _ _ _ _ ?_
                  refine And.intro (fun z => absurd z (nI_neg1 hn9)) (fun _ => ?_)
                  refine hP _ _ _ _ ?_
                  refine And.intro (fun z => absurd z (nI_neg1 hn9)) (fun _ => ?_)
                  refine hP _ _ _ _ ?_
                  exact ih q _ (some (hn, i)) _ _ s5 rfl (by omega) b3 b4 hS5 hM5 he
              | succ j ihj =>
                intro i x7 hj hbk
                have hsl : i < Tns T := by omega
                obtain ⟨i9, hi9⟩ : ∃ i9, Tns T - i = i9 + 1 := ⟨Tns T - i - 1, by omega⟩
                have hno : ¬ ∃ q, otherF T i p = some q ∧ backOK T n [] 99 0 (SD T n (Nat_ n w)) p i q := by
                  intro z
                  obtain ⟨q', z1, z2⟩ := z
                  rw [hi9, backF_some z1 z2] at hbk
                  have e7 : i = s := congrArg Prod.fst (Option.some.inj hbk)
                  omega
                refine hP _ _ _ _ ?_
                refine mcall (x_isOn G g l (d+47) τ T n hXN (Nat_ n w) hM _ _ i p rfl rfl hsl hp hne) (fun r s2 h9 => ?_)
                obtain ⟨⟨bb, rfl, hbb⟩, e9⟩ := h9
                subst e9
                have ebb : bb = false := by
                  cases bb with
                  | false => rfl
                  | true => exact absurd (hbb.mp rfl) hno
                subst ebb
                refine And.intro (fun z => absurd rfl z) (fun _ => ?_)
                show P 45 [some tX, some (iv (nI w)), some (iv b), some (iv (nI p)), some (iv (fstI o)), some (iv (sndI o)), some (iv (nI i + nI 1)), x7] [] s2
                rw [nI_add]
                refine ihj (i+1) x7 (by omega) ?_
                rw [hi9, backF_none (fun q z1 z2 => hno ⟨q, z1, z2⟩)] at hbk
                rw [show Tns T - (i + 1) = i9 by omega]
                exact hbk
            exact seek s 0 x7 (by omega) b1
      have gg : gI s1 62 (gI s1 19 (nI w).toNatClampNeg).toNatClampNeg = nI (fN (SD T n (Nat_ n w) (Nto n w))) := by rw [eto s1 S1', clN (by omega), M1 _ hat.2.1]
      refine And.intro (show vp_in (gI s1 19 (nI w).toNatClampNeg) 9 by rw [eto s1 S1']; exact vinN (by omega) (by decide)) (And.intro (fun e => ?_) (fun e => ?_))
      · have e : gI s1 62 (gI s1 19 (nI w).toNatClampNeg).toNatClampNeg < nI 100000000 := e
        rw [gg, nI_ltI (by omega) (by omega), fN_lt hg9] at e
        exact key ⟨ha, hb, by rw [cw]; exact e⟩ 9 (Nto n w) _ none _ _ s1 (eto s1 S1') (by have := cntN_le (A := SD T n (Nat_ n w)) hat.2.1; omega) hat.2.1 e S1' M1 rfl
      · have e : ¬ gI s1 62 (gI s1 19 (nI w).toNatClampNeg).toNatClampNeg < nI 100000000 := e
        rw [gg, nI_ltI (by omega) (by omega), fN_lt hg9] at e
        refine ⟨?_, S1'⟩
        unfold q_stuck
        rw [if_neg (fun ok => ok.2.2 (by rw [cw]; exact Classical.not_not.mp e))]
end SO_
