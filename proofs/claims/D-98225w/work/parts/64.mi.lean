section MI_
variable (G : CX) (g : GX) (l : Launch) (d : Nat) (σ : AS)
theorem IsEA.bound {T : Twn} {n : Nws} {rs : List Ride} {wo b lp src hr : Nat} {A : Nat → Nat} (h : IsEA T n rs wo b lp src hr A) {q : Nat} (hq : q < Tnp T) (hne : A q ≠ NV) : A q ≤ max hr lp := by
  obtain ⟨k, hk⟩ := (h q hq).1 hne
  cases k with
  | zero => rw [hk.2]; omega
  | succ k =>
    obtain ⟨s, p, t', h', -, -, -, -, h5, h6⟩ := hk
    omega
/-- a walker's soonest hours -/
noncomputable def EAw (T : Twn) (n : Nws) (rs : List Ride) (wo w : Nat) : Nat → Nat := EAf T n rs wo (Tbr T w) (Nset n w + 401) (Nat_ n w) (Nset n w)
def IsEAw (T : Twn) (n : Nws) (rs : List Ride) (wo w : Nat) : Prop := IsEA T n rs wo (Tbr T w) (Nset n w + 401) (Nat_ n w) (Nset n w) (EAw T n rs wo w) ∧ ∀ q, EAw T n rs wo w q ≤ NV
def MEA (T : Twn) (A : Nat → Nat) (t : AS) : Prop := ∀ q, q < Tnp T → gI t 232 q = nI (A q)
theorem MEA.keep {fs ids : List Nat} {T : Twn} {A : Nat → Nat} {σ s : AS} (h : MEA T A σ) (hS : mS fs ids σ s) (h1 : ids.contains 232 = false) : MEA T A s := fun p hp => by
  rw [hS.ia 232 h1 rfl]
  exact h p hp
theorem Nset_le {T : Twn} {n : Nws} (h : NOK T n) {w : Nat} (hw : w < Tnw T) : Nset n w ≤ 9999 := by
  have := h.1
  have := (h.2.2 w hw).2
  unfold Nset
  omega
theorem at_np {T : Twn} {n : Nws} (hT : TOK T) (h : NOK T n) {w : Nat} (hw : w < Tnw T) : Nat_ n w < Tnp T ∧ Nto n w < Tnp T ∧ Nat_ n w ≠ Nto n w := by
  have h1 := hT.2.2 w hw
  rcases (h.2.2 w hw).1 with ⟨e1, e2⟩ | ⟨e1, e2⟩ <;> rw [e1, e2] <;> exact ⟨by omega, by omega, by omega⟩
theorem IsEAw.le {T : Twn} {n : Nws} {rs : List Ride} {wo w : Nat} (h : IsEAw T n rs wo w) (hN : NOK T n) (hw : w < Tnw T) {q : Nat} (hq : q < Tnp T) : EAw T n rs wo w q = NV ∨ EAw T n rs wo w q ≤ 10400 := by
  by_cases e : EAw T n rs wo w q = NV
  · exact Or.inl e
  · have := h.1.bound hq e
    have := Nset_le hN hw
    exact Or.inr (by omega)
theorem c_spreadsFor (T : Twn) (n : Nws) (h : TN T n σ) (rs : List Ride) (hR : MRd rs σ) (x y : Int32) (w wo : Nat) (hx : x = nI w) (hw : w < Tnw T) (hy : ∀ s, s < 12 → (nI s = y ↔ s = wo)) :
    MC G g l (d+12) mX6_spreadsFor [tM, iv x, iv y] σ (fun r t => r = none ∧ mS [43] [228, 229, 232] σ t ∧ MEA T (EAw T n rs wo w) t ∧ IsEAw T n rs wo w) := by
  have h12 := h.1.1
  have hb := (h.1.2.2 w hw).1
  have hat := at_np h.1 h.2.1 hw
  have hse := Nset_le h.2.1 hw
  refine MC0 tX6_spreadsFor rfl okX6_spreadsFor rfl rfl rfl rfl (fun P => ?_)
  refine mcall (c_placeOf G g l (d+10) σ T n h.2.2.2 _ w hx hw h.1) (fun r s' h9 => ?_)
  obtain ⟨rfl, rfl⟩ := h9
  refine mcall (c_setsOut G g l (d+10) _ T n h.2.2.2 h.2.1 _ w hx hw h.1) (fun r s' h9 => ?_)
  obtain ⟨rfl, rfl⟩ := h9
  refine mcall (c_broadOf G g l (d+10) _ T h.2.2.1 _ w hx hw h.1) (fun r s' h9 => ?_)
  obtain ⟨rfl, rfl⟩ := h9
  refine mcall (c_setsOut G g l (d+10) _ T n h.2.2.2 h.2.1 _ w hx hw h.1) (fun r s' h9 => ?_)
  obtain ⟨rfl, rfl⟩ := h9
  refine mcall (c_spreads G g l d _ T n h rs hR _ _ _ _ _ (Nat_ n w) (Nset n w) (Tbr T w) (Nset n w + 401) wo rfl rfl rfl (by rw [nI_add]; exact (nI_pred (Nset n w + 400)).symm) hy (by omega) (by omega) (by omega) (by omega)) (fun r s' h9 => ?_)
  obtain ⟨rfl, hS, A, hA, hE⟩ := h9
  obtain ⟨e1, e2, e3⟩ := EAf_eq hE (fun q hq => hA.le (by omega))
  refine ⟨rfl, hS, fun q hq => ?_, e2, e3⟩
  rw [(hA q (by omega)).1, e1 q hq]
  rfl
/-- the way so far, in its two arrays -/
def MWay (ws : List (Nat × Nat)) (t : AS) : Prop := gI t 200 51 = nI ws.length ∧ ∀ k x, ws[k]? = some x → gI t 233 k = nI x.1 ∧ gI t 234 k = nI x.2
theorem MWay.keep {fs ids : List Nat} {ws : List (Nat × Nat)} {σ s : AS} (h : MWay ws σ) (hS : mS fs ids σ s) (h1 : (ids.contains 233 || ids.contains 234) = false) (h2 : (ids.contains 200 || fs.contains 51) = false) : MWay ws s := by
  simp only [Bool.or_eq_false_iff] at h1 h2
  refine ⟨by rw [hS.i 200 51 h2.1 (by rw [h2.2]; rfl)]; exact h.1, fun k x hx => ?_⟩
  rw [hS.ia 233 h1.1 rfl, hS.ia 234 h1.2 rfl]
  exact h.2 k x hx
theorem MWay.push {ws : List (Nat × Nat)} {σ : AS} (h : MWay ws σ) {x : Nat × Nat} : MWay (ws ++ [x]) (sI (sI (sI σ 233 ws.length (nI x.1)) 234 ws.length (nI x.2)) 200 51 (nI (ws.length + 1))) := by
  refine ⟨by simp [gI_sI], fun k y hy => ?_⟩
  by_cases hk : k < ws.length
  · rw [List.getElem?_append_left hk] at hy
    have := h.2 k y hy
    simp only [gI_sI]
    simp [show k ≠ ws.length by omega, this]
  · rw [List.getElem?_append_right (by omega)] at hy
    have hz : k - ws.length < 1 := (List.getElem?_eq_some_iff.mp hy).1
    have : k = ws.length := by omega
    subst this
    simp at hy
    subst hy
    simp [gI_sI]
set_option maxHeartbeats 1000000 in
theorem c_stepsBack (T : Twn) (n : Nws) (h : TN T n σ) (rs : List Ride) (hR : MRd rs σ) (x y : Int32) (w p : Nat) (hx : x = nI w) (hy : y = nI p) (hw : w < Tnw T) (hp : p < Tnp T) (hE : IsEAw T n rs 99 w) (hM : MEA T (EAw T n rs 99 w) σ) (hne : EAw T n rs 99 w p ≠ NV) (ws : List (Nat × Nat)) (hW : MWay ws σ) (hl : ws.length < 12)
    (v : Nat × Nat × Nat) (hv : back1 T n rs 99 (Tbr T w) (EAw T n rs 99 w) p = some v) :
    MC G g l (d+10) mX6_stepsBack [tM, iv x, iv y] σ (fun r t => r = some (iv (nI v.2.1)) ∧ mS [43, 51] [228, 229, 233, 234] σ t ∧ MWay (ws ++ [(v.1, v.2.2)]) t) := by
  subst hx; subst hy
  have h12 := h.1.1
  have hb := (h.1.2.2 w hw).1
  have hAp := hE.le h.2.1 hw hp
  have hAp : EAw T n rs 99 w p ≤ 10400 := by rcases hAp with e | e; exact absurd e hne; exact e
  refine MC1 tX6_stepsBack [2, 70] rfl okX6_stepsBack rfl rfl rfl rfl (fun P hP => ?_)
  have key : ∀ (m s : Nat) (τ : AS) (x4 x5 : Option AV), Tns T - s = m → s ≤ Tns T → mS [43, 51] [228, 229, 233, 234] σ τ → MWay ws τ → backF T n rs 99 (Tbr T w) (EAw T n rs 99 w) p m s = some v →
      P 2 [some tM, some (iv (nI w)), some (iv (nI p)), some (iv (nI s)), x4, x5] [] τ := by
    intro m
    induction m with
    | zero => intro s τ x4 x5 hm hs hS hWt hbk; simp [backF] at hbk
    | succ m ih =>
      intro s τ x4 x5 hm hs hS hWt hbk
      have hsl : s < Tns T := by omega
      have ht := (h.1.2.1 s hsl).2.2.2.1
      have hTN := h.keep hS rfl rfl
      have hMt := hM.keep hS rfl
      have next : ∀ (τ' : AS) (x4 x5 : Option AV), mS [43, 51] [228, 229, 233, 234] σ τ' → MWay ws τ' → (∀ q, otherF T s p = some q → ¬ backOK T n rs 99 (Tbr T w) (EAw T n rs 99 w) p s q) → P 70 [some tM, some (iv (nI w)), some (iv (nI p)), some (iv (nI s)), x4, x5] [] τ' := by
        intro τ' x4 x5 a1 a2 a3
        rw [backF_none a3] at hbk
        refine hP _ _ _ _ ?_
        show P 2 [some tM, some (iv (nI w)), some (iv (nI p)), some (iv (nI s + nI 1)), x4, x5] [] τ'
        rw [nI_add]
        exact ih (s+1) τ' x4 x5 (by omega) (by omega) a1 a2 hbk
      refine hP _ _ _ _ ?_
      refine mcall (c_streetMany G g l (d+8) τ) (fun r s' h9 => ?_)
      obtain ⟨rfl, rfl⟩ := h9
      rw [hTN.2.2.1.2.1]
      refine And.intro (fun q => absurd q (nI_ge (by omega) (by omega))) (fun _ => ?_)
      refine mcall (c_other G g l (d+7) s' T hTN.2.2.1 h.1 _ _ s p rfl rfl hsl (by omega)) (fun r s' h9 => ?_)
      obtain ⟨rfl, rfl⟩ := h9
      cases ho : otherF T s p with
      | none =>
        refine And.intro (fun _ => next _ _ _ hS hWt (fun q hq => by rw [ho] at hq; cases hq)) (fun q => absurd rfl q)
      | some q =>
        have hq := (other_np h.1 hsl ho).1
        have hAq := hE.le h.2.1 hw hq
        have hAq9 := hE.2 q
        unfold NV at hAq9
        have cq : (nI q).toNatClampNeg = q := clN (by omega)
        have cp : (nI p).toNatClampNeg = p := clN (by omega)
        have vq : vp_in (nI q) 9 := vinN (by omega) (by decide)
        have vpp : vp_in (nI p) 9 := vinN (by omega) (by decide)
        have gq : gI s' 232 (nI q).toNatClampNeg = nI (EAw T n rs 99 w q) := by rw [cq, hMt q hq]
        have gp : gI s' 232 (nI p).toNatClampNeg = nI (EAw T n rs 99 w p) := by rw [cp, hMt p hp]
        refine And.intro (fun e => absurd e ?_) (fun _ => And.intro vq (And.intro (fun e => ?_) (fun e => ?_)))
        · show ¬ nI q = - nI 1
          intro e
          have := congrArg Int32.toInt e
          rw [nI_toInt (by omega)] at this
          have e1 : (-nI 1).toInt = -1 := by decide
          rw [e1] at this
          omega
        · have e0 : ¬ gI s' 232 (nI q).toNatClampNeg = nI 1000000 := e
          rw [gq, nI_eq (by omega) (by omega)] at e0
          have hAq8 : EAw T n rs 99 w q ≤ 10400 := by rcases hAq with e9 | e9; exact absurd e9 e0; exact e9
          refine mcall (c_broadOf G g l (d+8) s' T hTN.2.2.1 _ w rfl hw h.1) (fun r s' h9 => ?_)
          obtain ⟨rfl, rfl⟩ := h9
          refine And.intro vq (And.intro vpp ?_)
          refine mcall (c_taken G g l d _ T n hTN rs (hR.keep hS rfl rfl) _ _ _ _ s (Tbr T w) (EAw T n rs 99 w q) (EAw T n rs 99 w p + 1) rfl rfl gq (by show gI s' 232 (nI p).toNatClampNeg = _; rw [gp]; exact (nI_pred _).symm) hsl (by omega) (by omega) (by omega)) (fun r s2 h9 => ?_)
          obtain ⟨rfl, S2⟩ := h9
          have S2' := hS.tr (S2.mono rfl rfl)
          have W2 := hWt.keep S2 rfl rfl
          have hk9 : tk1 T n rs s (Tbr T w) (EAw T n rs 99 w q) (EAw T n rs 99 w p + 1) ≤ 1000000 := by
            rcases tk1_spec T n rs s (Tbr T w) (EAw T n rs 99 w q) (EAw T n rs 99 w p + 1) ht.1 (by omega) with ⟨e1, -⟩ | ⟨-, -, e3, -⟩
            · rw [e1]; unfold NV; omega
            · omega
          refine And.intro (fun e2 => ?_) (fun e2 => ?_)
          · have e2 := (nI_eq (by omega) (by omega)).mp e2
            exact next _ _ _ S2' W2 (fun q' hq' hbo => by rw [ho] at hq'; cases hq'; exact hbo.2.2.1 e2)
          · have e2 : ¬ tk1 T n rs s (Tbr T w) (EAw T n rs 99 w q) (EAw T n rs 99 w p + 1) = NV := fun e3 => e2 (by rw [e3]; rfl)
            have T2 := h.keep S2' rfl rfl
            have M2 := hM.keep S2' rfl
            refine mcall (c_takesOf G g l (d+8) s2 T T2.2.2.1 _ s rfl hsl h.1) (fun r s3 h9 => ?_)
            obtain ⟨rfl, rfl⟩ := h9
            have gp2 : gI s3 232 (nI p).toNatClampNeg = nI (EAw T n rs 99 w p) := by rw [cp, M2 p hp]
            refine And.intro vpp (And.intro (fun e3 => ?_) (fun e3 => ?_))
            · have e3 : nI (tk1 T n rs s (Tbr T w) (EAw T n rs 99 w q) (EAw T n rs 99 w p + 1)) + nI (Ttk T s) = gI s3 232 (nI p).toNatClampNeg := e3
              rw [gp2, nI_add, nI_eq (by omega) (by omega)] at e3
              have hbo : backOK T n rs 99 (Tbr T w) (EAw T n rs 99 w) p s q := ⟨by omega, e0, e2, e3⟩
              rw [backF_some ho hbo] at hbk
              cases hbk
              have hl51 : gI s3 200 51 = nI ws.length := W2.1
              have c51 : (gI s3 200 51).toNatClampNeg = ws.length := by rw [hl51, clN (by omega)]
              have v51 : vp_in (gI s3 200 51) 12 := by rw [hl51]; exact vinN hl (by decide)
              refine And.intro v51 (And.intro v51 ⟨rfl, ?_, ?_⟩)
              · exact ((S2'.a rfl).a rfl).f rfl
              · have := W2.push (x := (s, tk1 T n rs s (Tbr T w) (EAw T n rs 99 w q) (EAw T n rs 99 w p + 1)))
                show MWay _ (sI (sI (sI s3 233 (gI s3 200 51).toNatClampNeg (nI s)) 234 (gI s3 200 51).toNatClampNeg _) 200 51 (gI s3 200 51 + nI 1))
                rw [c51, hl51, nI_add]
                exact this
            · have e3 : ¬ nI (tk1 T n rs s (Tbr T w) (EAw T n rs 99 w q) (EAw T n rs 99 w p + 1)) + nI (Ttk T s) = gI s3 232 (nI p).toNatClampNeg := e3
              rw [gp2, nI_add, nI_eq (by omega) (by omega)] at e3
              exact next _ _ _ S2' W2 (fun q' hq' hbo => by rw [ho] at hq'; cases hq'; exact e3 hbo.2.2.2)
        · have e : gI s' 232 (nI q).toNatClampNeg = nI 1000000 := e
          rw [gq, nI_eq (by omega) (by omega)] at e
          exact next _ _ _ hS hWt (fun q' hq' hbo => by rw [ho] at hq'; cases hq'; exact hbo.2.1 e)
  refine hP _ _ _ _ ?_
  exact key (Tns T) 0 σ none none rfl (Nat.zero_le _) mS.rf hW hv
set_option maxHeartbeats 1000000 in
theorem c_findsWay (T : Twn) (n : Nws) (h : TN T n σ) (rs : List Ride) (hR : MRd rs σ) (x : Int32) (w : Nat) (hx : x = nI w) (hw : w < Tnw T) :
    MC G g l (d+13) mX6_findsWay [tM, iv x] σ (fun r t => r = some (iv (bI (decide (EAw T n rs 99 w (Nto n w) ≠ NV)))) ∧ mS [43, 51] [228, 229, 232, 233, 234] σ t ∧ MEA T (EAw T n rs 99 w) t ∧ IsEAw T n rs 99 w ∧ (EAw T n rs 99 w (Nto n w) ≠ NV → MWay (wayF T n rs 99 (Tbr T w) (EAw T n rs 99 w) (Nat_ n w) 9 (Nto n w)) t ∧ (wayF T n rs 99 (Tbr T w) (EAw T n rs 99 w) (Nat_ n w) 9 (Nto n w)).length ≤ 8)) := by
  subst hx
  have h12 := h.1.1
  have hat := at_np h.1 h.2.1 hw
  refine MC1 tX6_findsWay [19] rfl okX6_findsWay rfl rfl rfl rfl (fun P hP => ?_)
  refine hP _ _ _ _ ?_
  refine mcall (c_spreadsFor G g l d σ T n h rs hR _ _ w 99 rfl hw (fun s hs => ⟨fun e => ?_, fun e => by omega⟩)) (fun r s1 h9 => ?_)
  · exfalso
    have := congrArg Int32.toInt e
    rw [nI_toInt (by omega)] at this
    have e1 : (-nI 1).toInt = -1 := by decide
    rw [e1] at this
    omega
  obtain ⟨rfl, S1, M1, E1⟩ := h9
  have S1 : mS [43, 51] [228, 229, 232, 233, 234] σ s1 := S1.mono rfl rfl
  have S2 : mS [43, 51] [228, 229, 232, 233, 234] σ (sI s1 200 51 (nI 0)) := S1.f rfl
  have M2 : MEA T (EAw T n rs 99 w) (sI s1 200 51 (nI 0)) := fun q hq => by rw [gI_sI, if_neg (by omega)]; exact M1 q hq
  have hAg9 := E1.2 (Nto n w)
  unfold NV at hAg9
  have gg : gI (sI s1 200 51 (nI 0)) 232 (nI (Nto n w)).toNatClampNeg = nI (EAw T n rs 99 w (Nto n w)) := by rw [clN (by omega), M2 _ hat.2.1]
  have key : ∀ (m p : Nat) (ws : List (Nat × Nat)) (τ : AS), cnt9 (EAw T n rs 99 w) (EAw T n rs 99 w p) < m → p < Tnp T → EAw T n rs 99 w p ≠ NV → mS [43, 51] [228, 229, 232, 233, 234] σ τ → MEA T (EAw T n rs 99 w) τ → MWay ws τ → ws.length + m ≤ 9 → wayF T n rs 99 (Tbr T w) (EAw T n rs 99 w) (Nat_ n w) 9 (Nto n w) = ws ++ wayF T n rs 99 (Tbr T w) (EAw T n rs 99 w) (Nat_ n w) m p → EAw T n rs 99 w (Nto n w) ≠ NV →
      P 19 [some tM, some (iv (nI w)), some (iv (nI p))] [] τ := by
    intro m
    induction m with
    | zero => intro p ws τ hc; exact absurd hc (Nat.not_lt_zero _)
    | succ m ih =>
      intro p ws τ hc hp hne hS hM hW hl hwf hg
      have hTN := h.keep hS rfl rfl
      refine hP _ _ _ _ ?_
      refine mcall (c_placeOf G g l (d+11) τ T n hTN.2.2.2 _ w rfl hw h.1) (fun r s' h9 => ?_)
      obtain ⟨rfl, rfl⟩ := h9
      refine And.intro (fun e => ?_) (fun e => ?_)
      · have e := (nI_eq (by omega) (by omega)).mp e
        have ew : wayF T n rs 99 (Tbr T w) (EAw T n rs 99 w) (Nat_ n w) (m+1) p = [] := by unfold wayF; rw [if_pos e]
        rw [ew, List.append_nil] at hwf
        refine ⟨nar1, by rw [decide_eq_true hg]; rfl, hS, hM, E1, fun _ => ?_⟩
        rw [hwf]
        exact ⟨hW, by omega⟩
      · have e : p ≠ Nat_ n w := fun e2 => e (by rw [e2])
        obtain ⟨s9, q9, h9', b1, b2, b3, b4, b5, b6, b7⟩ := back_ex h.1 E1.1 (fun q _ => E1.2 q) (by have := Nset_le h.2.1 hw; omega) hp hne e
        refine mcall (c_stepsBack G g l (d+2) s' T n hTN rs (hR.keep hS rfl rfl) _ _ w p rfl rfl hw hp E1 hM hne ws hW (by omega) (s9, q9, h9') b1) (fun r s2 h9 => ?_)
        obtain ⟨rfl, S3, W3⟩ := h9
        have ew : wayF T n rs 99 (Tbr T w) (EAw T n rs 99 w) (Nat_ n w) (m+1) p = (s9, h9') :: wayF T n rs 99 (Tbr T w) (EAw T n rs 99 w) (Nat_ n w) m q9 := by
          conv => lhs; unfold wayF
          rw [if_neg e, b1]
        have hcq := cnt9_lt (A := EAw T n rs 99 w) (p := p) (q := q9) (by omega) b7
        refine ih q9 (ws ++ [(s9, h9')]) s2 (by omega) b3 b4 (hS.tr (S3.mono rfl rfl)) (hM.keep S3 rfl) W3 (by simp; omega) ?_ hg
        rw [hwf, ew]
        simp
  refine mcall (c_goalOf G g l (d+11) _ T n (h.2.2.2.keep S2 rfl) _ w rfl hw h.1) (fun r s' h9 => ?_)
  obtain ⟨rfl, rfl⟩ := h9
  refine And.intro (show vp_in (nI (Nto n w)) 9 from vinN (by omega) (by decide)) (And.intro (fun e => ?_) (fun e => ?_))
  · have e : ¬ gI (sI s1 200 51 (nI 0)) 232 (nI (Nto n w)).toNatClampNeg = nI 1000000 := e
    rw [gg, nI_eq (by omega) (by omega)] at e
    exact key 9 (Nto n w) [] _ (by have := cnt9_8 (A := EAw T n rs 99 w) (p := Nto n w) (by omega); omega) hat.2.1 e S2 M2 ⟨by simp [gI_sI], fun k x hx => by simp at hx⟩ (by simp) (by simp) e
  · have e : gI (sI s1 200 51 (nI 0)) 232 (nI (Nto n w)).toNatClampNeg = nI 1000000 := e
    rw [gg, nI_eq (by omega) (by omega)] at e
    have e : EAw T n rs 99 w (Nto n w) = NV := e
    exact ⟨nar0, by rw [decide_eq_false (fun q => q e)]; rfl, S2, M2, E1, fun q => absurd e q⟩
theorem c_hasWay (T : Twn) (n : Nws) (h : TN T n σ) (x : Int32) (w : Nat) (hx : x = nI w) (hw : w < Tnw T) :
    MC G g l (d+14) mX6_hasWay [tM, iv x] σ (fun r t => r = some (iv (bI (decide (EAw T n [] 99 w (Nto n w) ≠ NV)))) ∧ mS [43, 47, 51] [228, 229, 232, 233, 234] σ t ∧ gI t 200 47 = nI 0 ∧ MEA T (EAw T n [] 99 w) t ∧ IsEAw T n [] 99 w ∧ (EAw T n [] 99 w (Nto n w) ≠ NV → MWay (wayF T n [] 99 (Tbr T w) (EAw T n [] 99 w) (Nat_ n w) 9 (Nto n w)) t ∧ (wayF T n [] 99 (Tbr T w) (EAw T n [] 99 w) (Nat_ n w) 9 (Nto n w)).length ≤ 8)) := by
  have S1 : mS [43, 47, 51] [228, 229, 232, 233, 234] σ (sI σ 200 47 (nI 0)) := mS.rf.f rfl
  refine MC0 tX6_hasWay rfl okX6_hasWay rfl rfl rfl rfl (fun P => ?_)
  refine mcall (c_findsWay G g l d _ T n (h.keep S1 rfl rfl) [] ⟨rfl, by simp, fun k r hr => by simp at hr⟩ _ w hx hw) (fun r s' h9 => ?_)
  obtain ⟨rfl, a1, a2, a3, a4⟩ := h9
  refine ⟨nar_bI _, rfl, S1.tr (a1.mono rfl rfl), ?_, a2, a3, a4⟩
  rw [a1.i 200 47 rfl rfl]
  rfl
end MI_
