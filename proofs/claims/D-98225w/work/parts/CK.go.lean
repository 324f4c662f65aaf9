/-! ways, in the component: wayStreet (60), wayHour (61), wayLong (field 17) -/
def XWay (ws : List (Nat × Nat)) (t : AS) : Prop := gI t 0 17 = nI ws.length ∧ ∀ (k : Nat) (x : Nat × Nat), ws[k]? = some x → gI t 60 k = nI x.1 ∧ gI t 61 k = nI x.2
theorem XWay.xs {fs ids : List Nat} {ws : List (Nat × Nat)} {σ s : AS} (h : XWay ws σ) (hS : xS fs ids σ s) (h1 : (ids.contains 60 || ids.contains 61) = false) (h2 : (ids.contains 0 || fs.contains 17) = false) : XWay ws s := by
  simp only [Bool.or_eq_false_iff] at h1 h2
  refine ⟨by rw [hS.i 0 17 h2.1 (by rw [h2.2]; rfl)]; exact h.1, fun k x hx => ?_⟩
  rw [hS.ia 60 h1.1 rfl, hS.ia 61 h1.2 rfl]
  exact h.2 k x hx
theorem XWay.push {ws : List (Nat × Nat)} {σ t2 : AS} (h : XWay ws σ) {x : Nat × Nat} (hS : xS [] [14] (sI (sI σ 60 ws.length (nI x.1)) 0 17 (nI (ws.length + 1))) t2) : XWay (ws ++ [x]) (sI t2 61 ws.length (nI x.2)) := by
  refine ⟨?_, fun k y hy => ?_⟩
  · rw [gI_sI, if_neg (by omega), hS.i 0 17 rfl rfl, gI_sI, if_pos ⟨rfl, rfl⟩, List.length_append]
    rfl
  · have e60 : gI (sI t2 61 ws.length (nI x.2)) 60 k = if k = ws.length then nI x.1 else gI σ 60 k := by
      rw [gI_sI, if_neg (fun z => absurd z.1 (by decide)), hS.ia 60 rfl rfl, gI_sI, if_neg (fun z => absurd z.1 (by decide)), gI_sI]
      by_cases e : k = ws.length
      · rw [if_pos ⟨rfl, e⟩, if_pos e]
      · rw [if_neg (fun z => e z.2), if_neg e]
    have e61 : gI (sI t2 61 ws.length (nI x.2)) 61 k = if k = ws.length then nI x.2 else gI σ 61 k := by
      rw [gI_sI]
      by_cases e : k = ws.length
      · rw [if_pos ⟨rfl, e⟩, if_pos e]
      · rw [if_neg (fun z => e z.2), if_neg e, hS.ia 61 rfl rfl, gI_sI, if_neg (fun z => absurd z.1 (by decide)), gI_sI, if_neg (fun z => absurd z.1 (by decide))]
    rw [e60, e61]
    by_cases hk : k < ws.length
    · rw [List.getElem?_append_left hk] at hy
      rw [if_neg (by omega), if_neg (by omega)]
      exact h.2 k y hy
    · rw [List.getElem?_append_right (by omega)] at hy
      have hz : k - ws.length < 1 := (List.getElem?_eq_some_iff.mp hy).1
      have : k = ws.length := by omega
      subst this
      simp at hy
      subst hy
      rw [if_pos rfl, if_pos rfl]
      exact ⟨rfl, rfl⟩
theorem IsEA.lt {T : Twn} {n : Nws} {rs : List Ride} {wo b lp src hr : Nat} {A : Nat → Nat} (h : IsEA T n rs wo b lp src hr A) (hl : hr < lp) {q : Nat} (hq : q < Tnp T) (hne : A q ≠ NV) : A q < lp := by
  obtain ⟨k, hk⟩ := (h q hq).1 hne
  cases k with
  | zero => rw [hk.2]; exact hl
  | succ k =>
    obtain ⟨s, p, t', h', -, -, -, -, h5, h6⟩ := hk
    omega
section GO_
variable (G : CX) (g : GX) (l : Launch) (d : Nat) (σ : AS)
/-- the hour of the way back is the first hour from the place ahead on -/
theorem back_tk {T : Twn} {n : Nws} {rs : List Ride} {wo b lp : Nat} {A : Nat → Nat} {p s q : Nat} (ht : 1 ≤ Ttk T s) (hlp : lp ≤ 900000) (hp : A p < lp) (hq : A q ≠ NV) : backOK T n rs wo b A p s q ↔ (tkW T n rs wo s b (A q) lp ≠ NV ∧ tkW T n rs wo s b (A q) lp + Ttk T s = A p) := by
  unfold backOK tkW
  by_cases hw : s = wo
  · rw [if_pos hw]
    exact ⟨fun z => absurd hw z.1, fun z => absurd rfl z.1⟩
  · rw [if_neg hw]
    rcases tk1_spec T n rs s b (A q) lp ht hlp with ⟨a1, a2⟩ | ⟨a0, a1, a2, a3, a4⟩
    · rcases tk1_spec T n rs s b (A q) (A p + 1) ht (by omega) with ⟨c1, c2⟩ | ⟨c0, c1, c2, c3, c4⟩
      · exact ⟨fun z => absurd c1 z.2.2.1, fun z => absurd a1 z.1⟩
      · exfalso
        have := a2 _ c1 (by omega)
        rw [c3] at this
        cases this
    · rcases tk1_spec T n rs s b (A q) (A p + 1) ht (by omega) with ⟨c1, c2⟩ | ⟨c0, c1, c2, c3, c4⟩
      · refine ⟨fun z => absurd c1 z.2.2.1, fun z => ?_⟩
        exfalso
        have := c2 _ a1 (by omega)
        rw [a3] at this
        cases this
      · have e : tk1 T n rs s b (A q) (A p + 1) = tk1 T n rs s b (A q) lp := by
          rcases Nat.lt_trichotomy (tk1 T n rs s b (A q) (A p + 1)) (tk1 T n rs s b (A q) lp) with h8 | h8 | h8
          · have := a4 _ c1 h8
            rw [c3] at this
            cases this
          · exact h8
          · have := c4 _ a1 h8
            rw [a3] at this
            cases this
        rw [e]
        exact ⟨fun z => ⟨z.2.2.1, z.2.2.2⟩, fun z => ⟨hw, hq, z.1, z.2⟩⟩
set_option maxRecDepth 10000 in
set_option maxHeartbeats 1000000 in
theorem x_comesBy (T : Twn) (n : Nws) (h : XN T n σ) (rs : List Ride) (hR : XRd rs σ) (wo hr : Nat) (hG : XGo wo σ) (hO : gI σ 0 18 = nI hr) (hso : hr ≤ 100000) (A : Nat → Nat) (hL : XLa T A σ) (hA9 : ∀ q, q < Tnp T → A q = NV ∨ A q < hr + 401) (x y z : Int32) (s p b : Nat) (hx : x = nI s) (hy : y = nI p) (hz : z = nI b) (hs : s < Tns T) (hp : p < Tnp T) (hb : b ≤ 1000) (hne : A p ≠ NV) :
    MC G g l (d+55) mX0_comesBy [tX, iv x, iv y, iv z] σ (fun r t => ∃ bb : Bool, r = some (iv (bI bb)) ∧ (bb = true ↔ ∃ q, otherF T s p = some q ∧ backOK T n rs wo b A p s q) ∧ xS [] [14] σ t) := by
  subst hx; subst hy; subst hz
  have hn := h.1.1
  have hT := h.1
  have ht := (hT.2.1 s hs).2.2.2.1
  have cp : (nI p).toNatClampNeg = p := clN (by omega)
  have vpp : vp_in (nI p) 9 := vinN (by omega) (by decide)
  have hpl : A p < hr + 401 := by rcases hA9 p hp with e | e; exact absurd e hne; exact e
  refine MC1 tX0_comesBy [3, 6, 19, 29, 37, 47] rfl okX0_comesBy rfl rfl rfl rfl (fun P hP => ?_)
  refine hP _ _ _ _ (hP _ _ _ _ (at_street T rfl h.2.2.1 rfl rfl hs rfl (fun c2 hc2 => ?_)))
  refine grd (b := Nat.beq (kd true σ c2).1 0) (by rw [hc2.1]; rfl) ?_
  rw [show kdA (true, g) σ (.inl c2) = (0, 8) from hc2.1]
  refine mcall (x_other G g l (d+53) σ T hT s c2 hc2 _ p rfl hs (by omega)) (fun r s1 h9 => ?_)
  obtain ⟨rfl, e9⟩ := h9
  subst e9
  show P 6 [some tX, some (iv (nI s)), some (iv (nI p)), some (iv (nI b)), none, none] [iv (optI (otherF T s p))] s1
  have no : ∀ (o4 o5 : Option AV), (¬ ∃ q, otherF T s p = some q ∧ backOK T n rs wo b A p s q) → P 19 [some tX, some (iv (nI s)), some (iv (nI p)), some (iv (nI b)), o4, o5] [] s1 := by
    intro o4 o5 hno
    exact hP _ _ _ _ ⟨nar0, false, rfl, ⟨fun z => (by cases z), fun z => absurd z hno⟩, xS.rf⟩
  cases ho : otherF T s p with
  | none =>
    refine hP _ _ _ _ ?_
    refine And.intro (fun _ => ?_) (fun q => absurd rfl q)
    exact no _ _ (fun z => by obtain ⟨q, z1, -⟩ := z; rw [ho] at z1; cases z1)
  | some q =>
    have hq := (other_np hT hs ho).1
    have cq : (nI q).toNatClampNeg = q := clN (by omega)
    have vq : vp_in (nI q) 9 := vinN (by omega) (by decide)
    have hAq : A q ≤ NV := by rcases hA9 q hq with e | e <;> (unfold NV at *; omega)
    have hAp : A p ≤ NV := by unfold NV; omega
    have gq : gI s1 58 (nI q).toNatClampNeg = nI (fN (A q)) := by rw [cq]; exact hL q hq
    have gp : gI s1 58 (nI p).toNatClampNeg = nI (fN (A p)) := by rw [cp]; exact hL p hp
    have f1 := fN_le hAq
    have f2 := fN_le hAp
    have ex : (∃ q', otherF T s p = some q' ∧ backOK T n rs wo b A p s q') ↔ backOK T n rs wo b A p s q := by
      constructor
      · intro z
        obtain ⟨q', z1, z2⟩ := z
        rw [ho] at z1
        cases z1
        exact z2
      · intro z
        exact ⟨q, ho, z⟩
    refine hP _ _ _ _ ?_
    refine And.intro (fun z => absurd z (nI_neg1 (by omega))) (fun _ => And.intro vq (And.intro vpp (And.intro (fun z => ?_) (fun z => ?_))))
    · have z : gI s1 58 (nI q).toNatClampNeg < gI s1 58 (nI p).toNatClampNeg := z
      rw [gq, gp, nI_ltI (by omega) (by omega), fN_lt2 hAq hAp] at z
      have hqn : A q ≠ NV := by unfold NV at *; omega
      refine And.intro vq ?_
      refine mcall (x_taken G g l d s1 T n h rs hR wo hr hG hO (by omega) _ _ _ s b (A q) rfl rfl (show gI s1 58 (nI q).toNatClampNeg = _ from by rw [gq, fN_of hqn]) hs hb (by omega)) (fun r s2 h9 => ?_)
      obtain ⟨rfl, e9⟩ := h9
      have hXN := h.xs e9 rfl rfl
      have hbk := back_tk (T := T) (n := n) (rs := rs) (wo := wo) (b := b) (lp := hr + 401) (A := A) (p := p) (s := s) (q := q) ht.1 (by omega) hpl hqn
      have htk := tkW_le T n rs wo s b (A q) (hr + 401) ht.1 (by omega)
      show P 29 [some tX, some (iv (nI s)), some (iv (nI p)), some (iv (nI b)), some (iv (nI q)), none] [iv (nI (fN (tkW T n rs wo s b (A q) (hr + 401))))] s2
      have no2 : ∀ (o4 o5 : Option AV), ¬ backOK T n rs wo b A p s q → P 47 [some tX, some (iv (nI s)), some (iv (nI p)), some (iv (nI b)), o4, o5] [] s2 := by
        intro o4 o5 hno
        exact hP _ _ _ _ ⟨nar0, false, rfl, ⟨fun z => (by cases z), fun z => absurd (ex.mp z) hno⟩, e9⟩
      refine hP _ _ _ _ ?_
      refine And.intro (fun q2 => ?_) (fun q2 => ?_)
      · have q2 : nI 100000000 ≤ nI (fN (tkW T n rs wo s b (A q) (hr + 401))) := q2
        refine no2 _ _ (fun z => ?_)
        have z := hbk.mp z
        rw [fN_of z.1, nI_leI (by omega) (by omega)] at q2
        omega
      · have q2 : ¬ nI 100000000 ≤ nI (fN (tkW T n rs wo s b (A q) (hr + 401))) := q2
        have hne2 : tkW T n rs wo s b (A q) (hr + 401) ≠ NV := fun e => q2 (by rw [e, fN_NV]; exact Int32.le_refl _)
        have gp2 : gI s2 58 (nI p).toNatClampNeg = nI (fN (A p)) := by rw [cp, e9.ia 58 rfl rfl]; exact hL p hp
        rcases htk with e | ⟨e1, e2⟩
        · exact absurd e hne2
        refine hP _ _ _ _ (at_street T rfl hXN.2.2.1 rfl rfl hs rfl (fun c3 hc3 => ?_))
        refine grd (b := isOb (kd true s2 c3) _) (by rw [hc3.1]; rfl) ?_
        refine And.intro vpp (And.intro (fun q3 => ?_) (fun q3 => ?_))
        · have q3 : ¬ nI (fN (tkW T n rs wo s b (A q) (hr + 401))) + gI s2 c3 3 = gI s2 58 (nI p).toNatClampNeg := q3
          rw [gp2, hc3.2.2.2.1, fN_of hne2, fN_of hne, nI_add, nI_eq (by omega) (by omega)] at q3
          exact no2 _ _ (fun z => q3 (hbk.mp z).2)
        · have q3 : nI (fN (tkW T n rs wo s b (A q) (hr + 401))) + gI s2 c3 3 = gI s2 58 (nI p).toNatClampNeg := q3
          rw [gp2, hc3.2.2.2.1, fN_of hne2, fN_of hne, nI_add, nI_eq (by omega) (by omega)] at q3
          exact ⟨nar1, true, rfl, ⟨fun _ => ex.mpr (hbk.mpr ⟨hne2, q3⟩), fun _ => rfl⟩, e9⟩
    · have z : ¬ gI s1 58 (nI q).toNatClampNeg < gI s1 58 (nI p).toNatClampNeg := z
      rw [gq, gp, nI_ltI (by omega) (by omega), fN_lt2 hAq hAp] at z
      refine no _ _ (fun z2 => ?_)
      have z2 := ex.mp z2
      obtain ⟨y1, y2, y3, y4⟩ := z2
      rcases tk1_spec T n rs s b (A q) (A p + 1) ht.1 (by omega) with ⟨c1, c2⟩ | ⟨c0, c1, c2, c3, c4⟩
      · exact absurd c1 y3
      · omega
set_option maxRecDepth 10000 in
set_option maxHeartbeats 2000000 in
theorem x_goes2 (T : Twn) (n : Nws) (h : XN T n σ) (rs : List Ride) (hR : XRd rs σ) (wo : Nat) (hG : XGo wo σ) (x y z u : Int32) (src dst b hr : Nat) (hx : x = nI src) (hy : y = nI dst) (hz : z = nI b) (hu : u = nI hr) (hsrc : src < Tnp T) (hdst : dst < Tnp T) (hb : b ≤ 1000) (h1 : hr ≤ 100000) :
    MC G g l (d+56) mX0_goes_2 [tX, iv x, iv y, iv z, iv u] σ (fun r t => r = some (iv (bI (decide (EAf T n rs wo b (hr + 401) src hr dst ≠ NV)))) ∧ xS [17, 18] [14, 58, 59, 60, 61] σ t ∧ XLa T (EAf T n rs wo b (hr + 401) src hr) t ∧ IsEA T n rs wo b (hr + 401) src hr (EAf T n rs wo b (hr + 401) src hr) ∧ (∀ q, EAf T n rs wo b (hr + 401) src hr q ≤ NV) ∧ (EAf T n rs wo b (hr + 401) src hr dst ≠ NV → XWay (wayF T n rs wo b (EAf T n rs wo b (hr + 401) src hr) src 9 dst) t ∧ (wayF T n rs wo b (EAf T n rs wo b (hr + 401) src hr) src 9 dst).length ≤ 8)) := by
  subst hx; subst hy; subst hz; subst hu
  have hn := h.1.1
  have hT := h.1
  refine MC1 tX0_goes_2 [18, 23, 34, 37, 60] rfl okX0_goes_2 rfl rfl rfl rfl (fun P hP => ?_)
  refine hP _ _ _ _ ?_
  refine mcall (x_labels G g l d σ T n h rs hR wo hG _ _ _ src b hr rfl rfl rfl hsrc hb h1) (fun r s1 h9 => ?_)
  obtain ⟨rfl, S1, O1, L1, E1, E2⟩ := h9
  have E3 : ∀ q, q < Tnp T → EAf T n rs wo b (hr + 401) src hr q = NV ∨ EAf T n rs wo b (hr + 401) src hr q < hr + 401 := fun q hq => by
    by_cases e : EAf T n rs wo b (hr + 401) src hr q = NV
    · exact Or.inl e
    · exact Or.inr (E1.lt (by omega) hq e)
  generalize hA : EAf T n rs wo b (hr + 401) src hr = A at *
  have S2 : xS [17, 18] [14, 58, 59, 60, 61] σ (sI s1 0 17 (nI 0)) := (S1.mono rfl rfl).f rfl
  have L2 : XLa T A (sI s1 0 17 (nI 0)) := fun q hq => by rw [gI_sI, if_neg (by omega)]; exact L1 q hq
  have O2 : gI (sI s1 0 17 (nI 0)) 0 18 = nI hr := by rw [gI_sI, if_neg (by omega)]; exact O1
  have cd : (nI dst).toNatClampNeg = dst := clN (by omega)
  have hAd := E2 dst
  have fAd := fN_le hAd
  have gd : gI (sI s1 0 17 (nI 0)) 58 (nI dst).toNatClampNeg = nI (fN (A dst)) := by rw [cd]; exact L2 dst hdst
  have key : ∀ (m p : Nat) (ws : List (Nat × Nat)) (t : AS) (o6 o7 : Option AV), cnt9 A (A p) < m → p < Tnp T → A p ≠ NV → xS [17, 18] [14, 58, 59, 60, 61] σ t → XLa T A t → gI t 0 18 = nI hr → XWay ws t → ws.length + m ≤ 9 → wayF T n rs wo b A src 9 dst = ws ++ wayF T n rs wo b A src m p → A dst ≠ NV →
      P 18 [some tX, some (iv (nI src)), some (iv (nI dst)), some (iv (nI b)), some (iv (nI hr)), some (iv (nI p)), o6, o7] [] t := by
    intro m
    induction m with
    | zero => intro p ws t o6 o7 hc; exact absurd hc (Nat.not_lt_zero _)
    | succ m ih =>
      intro p ws t o6 o7 hc hp hne hS hL hO hW hl hwf hg
      refine hP _ _ _ _ ?_
      refine And.intro (fun e => ?_) (fun e => ?_)
      · have e : nI p = nI src := e
        rw [nI_eq (by omega) (by omega)] at e
        have ew : wayF T n rs wo b A src (m+1) p = [] := by unfold wayF; rw [if_pos e]
        rw [ew, List.append_nil] at hwf
        refine ⟨nar1, by rw [decide_eq_true hg]; rfl, hS, hL, E1, E2, fun _ => ?_⟩
        rw [hwf]
        exact ⟨hW, by omega⟩
      · have e : p ≠ src := fun e2 => e (by rw [e2])
        obtain ⟨s9, q9, h9', b1, b2, b3, b4, b5, b6, b7⟩ := back_ex hT E1 (fun q _ => E2 q) (by omega) hp hne e
        obtain ⟨x1, x2, x3, x4, x5⟩ := backF_is _ _ _ b1
        have x3 : otherF T s9 p = some q9 := x3
        have x4 : backOK T n rs wo b A p s9 q9 := x4
        have seek : ∀ (j s : Nat) (u : AS) (o7 : Option AV), s + j = s9 → xS [17, 18] [14, 58, 59, 60, 61] σ u → XLa T A u → gI u 0 18 = nI hr → XWay ws u → backF T n rs wo b A p (Tns T - s) s = some (s9, q9, h9') → P 23 [some tX, some (iv (nI src)), some (iv (nI dst)), some (iv (nI b)), some (iv (nI hr)), some (iv (nI p)), some (iv (nI s)), o7] [] u := by
          intro j
          induction j with
          | zero =>
            intro s u o7 hj hS hL hO hW hbk
            have es : s = s9 := by omega
            subst es
            refine hP _ _ _ _ ?_
            refine mcall (x_comesBy G g l d u T n (h.xs hS rfl rfl) rs (hR.xs hS rfl rfl) wo hr (hG.xs hS rfl rfl) hO h1 A hL E3 _ _ _ s p b rfl rfl rfl b2 hp hb hne) (fun r s2 h9 => ?_)
            obtain ⟨bb, rfl, hbb, f9⟩ := h9
            have ebb : bb = true := hbb.mpr ⟨q9, x3, x4⟩
            subst ebb
            refine And.intro (fun _ => ?_) (fun q => absurd q (by decide))
            have hS3 := hS.tr (f9.mono rfl rfl)
            have hXN3 := h.xs hS3 rfl rfl
            have hW3 := hW.xs f9 rfl rfl
            refine hP _ _ _ _ (at_street T rfl hXN3.2.2.1 rfl rfl b2 rfl (fun c2 hc2 => ?_))
            refine grd (b := Nat.beq (kd true s2 c2).1 0) (by rw [hc2.1]; rfl) ?_
            rw [show kdA (true, g) s2 (.inl c2) = (0, 8) from hc2.1]
            refine mcall (x_other G g l (d+54) s2 T hT s c2 hc2 _ p rfl b2 (by omega)) (fun r s3 h9 => ?_)
            obtain ⟨rfl, g9⟩ := h9
            subst g9
            rw [x3]
            show P 37 [some tX, some (iv (nI src)), some (iv (nI dst)), some (iv (nI b)), some (iv (nI hr)), some (iv (nI p)), some (iv (nI s)), o7] [iv (nI q9)] s3
            refine hP _ _ _ _ ?_
            have hl17 : gI s3 0 17 = nI ws.length := hW3.1
            have c17 : (gI s3 0 17).toNatClampNeg = ws.length := by rw [hl17, clN (by omega)]
            have v17 : vp_in (gI s3 0 17) 9 := by rw [hl17]; exact vinN (by omega) (by decide)
            have cq : (nI q9).toNatClampNeg = q9 := clN (by omega)
            have vq : vp_in (nI q9) 9 := vinN (by omega) (by decide)
            refine And.intro v17 (And.intro vq ?_)
            generalize hs4 : sI (sI s3 60 ws.length (nI s)) 0 17 (nI (ws.length + 1)) = s4
            have es4 : sI (sI s3 60 (gI s3 0 17).toNatClampNeg (nI s)) 0 17 (gI (sI s3 60 (gI s3 0 17).toNatClampNeg (nI s)) 0 17 + nI 1) = s4 := by
              rw [gI_sI, if_neg (by omega), c17, hl17, nI_add, hs4]
            show P 60 [some tX, some (iv (nI src)), some (iv (nI dst)), some (iv (nI b)), some (iv (nI hr)), some (iv (nI p)), some (iv (nI s)), some (iv (nI q9))] [iv (gI (sI (sI s3 60 (gI s3 0 17).toNatClampNeg (nI s)) 0 17 (gI (sI s3 60 (gI s3 0 17).toNatClampNeg (nI s)) 0 17 + nI 1)) 58 (nI q9).toNatClampNeg), iv (nI b), iv (nI s), tX, iv (gI (sI s3 60 (gI s3 0 17).toNatClampNeg (nI s)) 0 17), rf 61] (sI (sI s3 60 (gI s3 0 17).toNatClampNeg (nI s)) 0 17 (gI (sI s3 60 (gI s3 0 17).toNatClampNeg (nI s)) 0 17 + nI 1))
            rw [es4, show gI (sI s3 60 (gI s3 0 17).toNatClampNeg (nI s)) 0 17 = nI ws.length from by rw [gI_sI, if_neg (by omega)]; exact hl17]
            have hS4 : xS [17, 18] [14, 58, 59, 60, 61] σ s4 := by rw [← hs4]; exact (hS3.a rfl).f rfl
            have hXN4 := h.xs hS4 rfl rfl
            have L4 : XLa T A s4 := fun q hq => by rw [← hs4, gI_sI, if_neg (by omega), gI_sI, if_neg (by omega)]; exact hL.xs f9 rfl q hq
            have O4 : gI s4 0 18 = nI hr := by rw [← hs4, gI_sI, if_neg (by omega), gI_sI, if_neg (by omega), f9.i 0 18 rfl rfl]; exact hO
            refine hP _ _ _ _ ?_
            refine mcall (x_taken G g l (d+1) s4 T n hXN4 rs (hR.xs hS4 rfl rfl) wo hr (hG.xs hS4 rfl rfl) O4 (by omega) _ _ _ s b (A q9) rfl rfl (show gI s4 58 (nI q9).toNatClampNeg = _ from by rw [cq, L4 q9 b3, fN_of b4]) b2 hb (by have := E3 q9 b3; unfold NV at *; omega)) (fun r s5 h9 => ?_)
            obtain ⟨rfl, g9⟩ := h9
            have hpl : A p < hr + 401 := by rcases E3 p hp with q | q; exact absurd q hne; exact q
            have ht := (hT.2.1 s b2).2.2.2.1
            have hbk2 := (back_tk (T := T) (n := n) (rs := rs) (wo := wo) (b := b) (lp := hr + 401) (A := A) (p := p) (s := s) (q := q9) ht.1 (by omega) hpl b4).mp x4
            have hhe : tkW T n rs wo s b (A q9) (hr + 401) = h9' := by omega
            rw [hhe, fN_of (by unfold NV; omega)]
            have v61 : vp_in (nI ws.length) 9 := vinN (by omega) (by decide)
            refine And.intro v61 ?_
            have cl : (nI ws.length).toNatClampNeg = ws.length := clN (by omega)
            show P 18 [some tX, some (iv (nI src)), some (iv (nI dst)), some (iv (nI b)), some (iv (nI hr)), some (iv (nI q9)), some (iv (nI s)), some (iv (nI q9))] [] (sI s5 61 (nI ws.length).toNatClampNeg (nI h9'))
            rw [cl]
            have ew : wayF T n rs wo b A src (m+1) p = (s, h9') :: wayF T n rs wo b A src m q9 := by
              conv => lhs; unfold wayF
              rw [if_neg e, b1]
            have hcq := cnt9_lt (A := A) (p := p) (q := q9) (by omega) b7
            refine ih q9 (ws ++ [(s, h9')]) _ _ _ (by omega) b3 b4 ((hS4.tr (g9.mono rfl rfl)).a rfl) (fun q hq => ?_) ?_ (hW3.push (x := (s, h9')) (by rw [hs4]; exact g9)) (by simp; omega) ?_ hg
            · rw [gI_sI, if_neg (by omega)]; exact L4.xs g9 rfl q hq
            · rw [gI_sI, if_neg (by omega), g9.i 0 18 rfl rfl]; exact O4
            · rw [hwf, ew]; simp
          | succ j ihj =>
            intro s u o7 hj hS hL hO hW hbk
            have hsl : s < Tns T := by omega
            have hno : ¬ ∃ q, otherF T s p = some q ∧ backOK T n rs wo b A p s q := by
              intro z
              obtain ⟨q, z1, z2⟩ := z
              obtain ⟨i, hi⟩ : ∃ i, Tns T - s = i + 1 := ⟨Tns T - s - 1, by omega⟩
              rw [hi, backF_some z1 z2] at hbk
              cases hbk
              omega
            refine hP _ _ _ _ ?_
            refine mcall (x_comesBy G g l d u T n (h.xs hS rfl rfl) rs (hR.xs hS rfl rfl) wo hr (hG.xs hS rfl rfl) hO h1 A hL E3 _ _ _ s p b rfl rfl rfl hsl hp hb hne) (fun r s2 h9 => ?_)
            obtain ⟨bb, rfl, hbb, f9⟩ := h9
            have ebb : bb = false := by
              cases bb with
              | false => rfl
              | true => exact absurd (hbb.mp rfl) hno
            subst ebb
            refine And.intro (fun q => absurd rfl q) (fun _ => ?_)
            show P 23 [some tX, some (iv (nI src)), some (iv (nI dst)), some (iv (nI b)), some (iv (nI hr)), some (iv (nI p)), some (iv (nI s + nI 1)), o7] [] s2
            rw [nI_add]
            refine ihj (s+1) s2 o7 (by omega) (hS.tr (f9.mono rfl rfl)) (hL.xs f9 rfl) (by rw [f9.i 0 18 rfl rfl]; exact hO) (hW.xs f9 rfl rfl) ?_
            obtain ⟨i, hi⟩ : ∃ i, Tns T - s = i + 1 := ⟨Tns T - s - 1, by omega⟩
            rw [hi, backF_none (fun q z1 z2 => hno ⟨q, z1, z2⟩)] at hbk
            rw [show Tns T - (s + 1) = i by omega]
            exact hbk
        exact seek s9 0 t o7 (by omega) hS hL hO hW b1
  refine And.intro (show vp_in (nI dst) 9 from vinN (by omega) (by decide)) (And.intro (fun e => ?_) (fun e => ?_))
  · have e : gI (sI s1 0 17 (nI 0)) 58 (nI dst).toNatClampNeg < nI 100000000 := e
    rw [gd, nI_ltI (by omega) (by omega), fN_lt hAd] at e
    exact key 9 dst [] _ _ _ (by have := cnt9_8 (A := A) (p := dst) (by omega); omega) hdst e S2 L2 O2 ⟨by rw [gI_sI, if_pos ⟨rfl, rfl⟩]; rfl, fun k x hx => by simp at hx⟩ (by simp) (by simp) e
  · have e : ¬ gI (sI s1 0 17 (nI 0)) 58 (nI dst).toNatClampNeg < nI 100000000 := e
    rw [gd, nI_ltI (by omega) (by omega), fN_lt hAd] at e
    have e : A dst = NV := Classical.not_not.mp e
    exact ⟨nar0, by rw [decide_eq_false (fun q => q e)]; rfl, S2, L2, E1, E2, fun q => absurd e q⟩
end GO_
