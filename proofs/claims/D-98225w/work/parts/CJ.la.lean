section LA_
variable (G : CX) (g : GX) (l : Launch) (d : Nat) (σ : AS)
theorem nI_neg1 {p : Nat} (h : p < 1000000) : ¬ nI p = - nI 1 := by
  intro e
  have := congrArg Int32.toInt e
  rw [nI_toInt (by omega)] at this
  have e1 : (-nI 1).toInt = -1 := by decide
  rw [e1] at this
  omega
/-- the state of the labels -/
def LSt_ (T : Twn) (σ : AS) (hr : Nat) (A : Nat → Nat) (D : Nat → Bool) (t : AS) : Prop := xS [18] [14, 58, 59] σ t ∧ gI t 0 18 = nI hr ∧ okA T A ∧ XLa T A t ∧ XDo T D t
theorem LSt_.w {T : Twn} {σ s t : AS} {hr : Nat} {A : Nat → Nat} {D : Nat → Bool} (h : LSt_ T σ hr A D s) (hS : xS [] [14] s t) : LSt_ T σ hr A D t := by
  refine ⟨h.1.tr (hS.mono rfl rfl), ?_, h.2.2.1, h.2.2.2.1.xs hS rfl, h.2.2.2.2.xs hS rfl⟩
  rw [hS.i 0 18 rfl rfl]
  exact h.2.1
set_option maxRecDepth 10000 in
set_option maxHeartbeats 2000000 in
theorem x_labels (T : Twn) (n : Nws) (h : XN T n σ) (rs : List Ride) (hR : XRd rs σ) (wo : Nat) (hG : XGo wo σ) (x y z : Int32) (src b hr : Nat) (hx : x = nI src) (hy : y = nI b) (hz : z = nI hr) (hsrc : src < Tnp T) (hb : b ≤ 1000) (h1 : hr ≤ 100000) :
    MC G g l (d+55) mX0_labels [tX, iv x, iv y, iv z] σ (fun r t => r = none ∧ xS [18] [14, 58, 59] σ t ∧ gI t 0 18 = nI hr ∧ XLa T (EAf T n rs wo b (hr + 401) src hr) t ∧ IsEA T n rs wo b (hr + 401) src hr (EAf T n rs wo b (hr + 401) src hr) ∧ ∀ q, EAf T n rs wo b (hr + 401) src hr q ≤ NV) := by
  subst hx; subst hy; subst hz
  have hn := h.1.1
  have hT := h.1
  refine MC1 tX0_labels [5, 18, 28, 36, 65, 67, 78, 85, 106, 121, 126] rfl okX0_labels rfl rfl rfl rfl (fun P hP => ?_)
  have fin_ : ∀ (A : Nat → Nat) (D : Nat → Bool) (c lim : Nat) (t : AS), LSt_ T σ hr A D t → DI T n rs wo b (hr + 401) src hr A D c lim → (∀ p s, Edge T wo s c p → s < lim) → (∀ p, p < Tnp T → A p ≠ NV → D p = true) → xS [18] [14, 58, 59] σ t ∧ gI t 0 18 = nI hr ∧ XLa T (EAf T n rs wo b (hr + 401) src hr) t ∧ IsEA T n rs wo b (hr + 401) src hr (EAf T n rs wo b (hr + 401) src hr) ∧ ∀ q, EAf T n rs wo b (hr + 401) src hr q ≤ NV := by
    intro A D c lim t hL hD hk hall
    have hE := hD.isEA hT (by omega) (by unfold NV; omega) hk hall
    obtain ⟨e1, e2, e3⟩ := EAf_eq hE (fun q hq => hL.2.2.1.le hq)
    exact ⟨hL.1, hL.2.1, fun q hq => by rw [hL.2.2.2.1 q hq, e1 q hq], e2, e3⟩
  have big : ∀ (m k : Nat) (A : Nat → Nat) (D : Nat → Bool) (c lim : Nat) (t : AS) (o5 o6 o7 o8 : Option AV), k + m = Tnp T → LSt_ T σ hr A D t → DI T n rs wo b (hr + 401) src hr A D c lim → (∀ p s, Edge T wo s c p → s < lim) → k ≤ cntD D (Tnp T) → P 28 [some tX, some (iv (nI src)), some (iv (nI b)), some (iv (nI hr)), some (iv (nI k)), o5, o6, o7, o8] [] t := by
    intro m
    induction m with
    | zero =>
      intro k A D c lim t o5 o6 o7 o8 hm hL hD hk hc
      have hXN := h.xs hL.1 rfl rfl
      refine hP _ _ _ _ ?_
      refine mcall (x_placeMany G g l (d+52) t T hXN.2.2.1) (fun r s1 h9 => ?_)
      obtain ⟨rfl, e9⟩ := h9
      subst e9
      refine And.intro (fun _ => ⟨rfl, fin_ A D c lim s1 hL hD hk (fun p hp _ => cntD_all (by omega) p hp)⟩) (fun q => absurd (nI_le (by omega) (by omega)) q)
    | succ m ih =>
      intro k A D c lim t o5 o6 o7 o8 hm hL hD hk hc
      have hXN := h.xs hL.1 rfl rfl
      refine hP _ _ _ _ ?_
      refine mcall (x_placeMany G g l (d+52) t T hXN.2.2.1) (fun r s1 h9 => ?_)
      obtain ⟨rfl, e9⟩ := h9
      subst e9
      refine And.intro (fun q => absurd q (nI_ge (by omega) (by omega))) (fun _ => ?_)
      -- the streets of the best
      have spread : ∀ (bst : Nat), bst < Tnp T → ∀ (j s : Nat) (A' : Nat → Nat) (D' : Nat → Bool) (u : AS) (o7 o8 : Option AV), s + j = Tns T → LSt_ T σ hr A' D' u → DI T n rs wo b (hr + 401) src hr A' D' bst s → D' bst = true → (∀ q, q < Tnp T → D' q = true → A' q ≤ A' bst) → k + 1 ≤ cntD D' (Tnp T) → P 78 [some tX, some (iv (nI src)), some (iv (nI b)), some (iv (nI hr)), some (iv (nI k)), some (iv (nI bst)), some (iv (nI s)), o7, o8] [] u := by
        intro bst hbst j
        induction j with
        | zero =>
          intro s A' D' u o7 o8 hj hL2 hD2 hDb hle hcn
          have hXN2 := h.xs hL2.1 rfl rfl
          refine hP _ _ _ _ ?_
          refine mcall (x_streetMany G g l (d+52) u T hXN2.2.2.1) (fun r s2 h9 => ?_)
          obtain ⟨rfl, e9⟩ := h9
          subst e9
          refine And.intro (fun _ => ?_) (fun q => absurd (nI_le (by omega) (by omega)) q)
          show P 28 [some tX, some (iv (nI src)), some (iv (nI b)), some (iv (nI hr)), some (iv (nI k + nI 1)), some (iv (nI bst)), some (iv (nI s)), o7, o8] [] s2
          rw [nI_add]
          exact ih (k+1) A' D' bst s s2 _ _ _ _ (by omega) hL2 hD2 (fun p s9 he => by have := he.1; omega) hcn
        | succ j ihj =>
          intro s A' D' u o7 o8 hj hL2 hD2 hDb hle hcn
          have hXN2 := h.xs hL2.1 rfl rfl
          have hs : s < Tns T := by omega
          have ht := (hT.2.1 s hs).2.2.2.1
          have next : ∀ (A2 : Nat → Nat) (u2 : AS) (o7 o8 : Option AV), LSt_ T σ hr A2 D' u2 → DI T n rs wo b (hr + 401) src hr A2 D' bst (s+1) → (∀ q, q < Tnp T → D' q = true → A2 q ≤ A2 bst) → P 126 [some tX, some (iv (nI src)), some (iv (nI b)), some (iv (nI hr)), some (iv (nI k)), some (iv (nI bst)), some (iv (nI s)), o7, o8] [] u2 := by
            intro A2 u2 o7 o8 a1 a2 a3
            refine hP _ _ _ _ ?_
            show P 78 [some tX, some (iv (nI src)), some (iv (nI b)), some (iv (nI hr)), some (iv (nI k)), some (iv (nI bst)), some (iv (nI s + nI 1)), o7, o8] [] u2
            rw [nI_add]
            exact ihj (s+1) A2 D' u2 o7 o8 (by omega) a1 a2 hDb a3 hcn
          refine hP _ _ _ _ ?_
          refine mcall (x_streetMany G g l (d+52) u T hXN2.2.2.1) (fun r s2 h9 => ?_)
          obtain ⟨rfl, e9⟩ := h9
          subst e9
          refine And.intro (fun q => absurd q (nI_ge (by omega) (by omega))) (fun _ => ?_)
          refine hP _ _ _ _ (at_street T rfl hXN2.2.2.1 rfl rfl hs rfl (fun c2 hc2 => ?_))
          refine grd (b := Nat.beq (kd true s2 c2).1 0) (by rw [hc2.1]; rfl) ?_
          rw [show kdA (true, g) s2 (.inl c2) = (0, 8) from hc2.1]
          refine mcall (x_other G g l (d+53) s2 T hT s c2 hc2 _ bst rfl hs (by omega)) (fun r s3 h9 => ?_)
          obtain ⟨rfl, e9⟩ := h9
          subst e9
          cases ho : otherF T s bst with
          | none =>
            refine And.intro (fun _ => ?_) (fun q => absurd rfl q)
            exact next A' s3 _ _ hL2 (hD2.skip (fun q he => by
              have := edge_other hT (wo := wo) (s := s) (p := bst) (q := q) ⟨he.1, he.2.1, by rcases he.2.2 with ⟨a, b⟩ | ⟨a, b⟩; exact Or.inr ⟨b, a⟩; exact Or.inl ⟨b, a⟩⟩
              rw [ho] at this
              cases this)) hle
          | some to =>
            have hto := (other_np hT hs ho).1
            refine And.intro (fun q => absurd q (nI_neg1 (by omega))) (fun _ => ?_)
            have vto : vp_in (nI to) 9 := vinN (by omega) (by decide)
            have cto : (nI to).toNatClampNeg = to := clN (by omega)
            have cb : (nI bst).toNatClampNeg = bst := clN (by omega)
            have vb : vp_in (nI bst) 9 := vinN (by omega) (by decide)
            have edo : gI s3 59 (nI to).toNatClampNeg = bI (D' to) := by rw [cto]; exact hL2.2.2.2.2 to hto
            have esb : gI s3 58 (nI bst).toNatClampNeg = nI (fN (A' bst)) := by rw [cb]; exact hL2.2.2.2.1 bst hbst
            have hAb : A' bst ≠ NV := hD2.2.2.1 bst hbst hDb
            have hAb9 := hL2.2.2.1 bst hbst
            refine And.intro vto (And.intro (fun q => ?_) (fun q => ?_))
            · have q : gI s3 59 (nI to).toNatClampNeg = nI 0 := q
              rw [edo] at q
              have hDt : D' to = false := by
                cases hh : D' to with
                | false => rfl
                | true => rw [hh] at q; exact absurd q (by decide)
              refine And.intro vb ?_
              refine mcall (x_taken G g l d s3 T n hXN2 rs (hR.xs hL2.1 rfl rfl) wo hr (hG.xs hL2.1 rfl rfl) hL2.2.1 (by omega) _ _ _ s b (A' bst) rfl rfl (show gI s3 58 (nI bst).toNatClampNeg = _ from by rw [esb, fN_of hAb]) hs hb (by rcases hAb9 with q | q; exact absurd q hAb; have hz := (hD2.1 bst hbst hAb); obtain ⟨kk, hkk⟩ := hz; cases kk with
                | zero => have := hkk.2; omega
                | succ kk => obtain ⟨s7, p7, t7, h7, -, -, -, -, e7, e8⟩ := hkk; omega)) (fun r s4 h9 => ?_)
              obtain ⟨rfl, e9⟩ := h9
              have hL3 := hL2.w e9
              have hXN3 := h.xs hL3.1 rfl rfl
              have htk := tkW_le T n rs wo s b (A' bst) (hr + 401) ht.1 (by omega)
              show P 106 [some tX, some (iv (nI src)), some (iv (nI b)), some (iv (nI hr)), some (iv (nI k)), some (iv (nI bst)), some (iv (nI s)), some (iv (nI to)), o8] [iv (nI (fN (tkW T n rs wo s b (A' bst) (hr + 401))))] s4
              refine hP _ _ _ _ ?_
              refine And.intro (fun q2 => ?_) (fun q2 => ?_)
              · have q2 : nI 100000000 ≤ nI (fN (tkW T n rs wo s b (A' bst) (hr + 401))) := q2
                have hNV : tkW T n rs wo s b (A' bst) (hr + 401) = NV := by
                  rcases htk with e | ⟨e1, e2⟩
                  · exact e
                  · rw [fN_of (by unfold NV; omega), nI_leI (by omega) (by omega)] at q2
                    omega
                refine next A' s4 _ _ hL3 (hD2.skip (fun q he h' ha hf hlp => ?_)) hle
                exfalso
                have hw : s ≠ wo := he.2.1
                unfold tkW at hNV
                rw [if_neg hw] at hNV
                rcases tk1_spec T n rs s b (A' bst) (hr + 401) ht.1 (by omega) with ⟨-, q9⟩ | ⟨q9, -⟩
                · have := q9 h' ha hlp
                  rw [hf] at this
                  cases this
                · exact q9 hNV
              · have q2 : ¬ nI 100000000 ≤ nI (fN (tkW T n rs wo s b (A' bst) (hr + 401))) := q2
                have hne : tkW T n rs wo s b (A' bst) (hr + 401) ≠ NV := fun e => q2 (by rw [e, fN_NV]; exact Int32.le_refl _)
                obtain ⟨d1, d2, d3⟩ := hD2.relax hT (by omega) hbst hDb hle hs ho hDt hne
                have hto9 := hL3.2.2.1 to hto
                have hto8 := hL3.2.2.1.le hto
                have fto := fN_le hto8
                have est : gI s4 58 (nI to).toNatClampNeg = nI (fN (A' to)) := by rw [cto]; exact hL3.2.2.2.1 to hto
                refine And.intro vto ?_
                show P 121 [some tX, some (iv (nI src)), some (iv (nI b)), some (iv (nI hr)), some (iv (nI k)), some (iv (nI bst)), some (iv (nI s)), some (iv (nI to)), some (iv (nI (fN (tkW T n rs wo s b (A' bst) (hr + 401)))))] [iv (nI s), rw_ (gR true s4 0 0), iv (nI (fN (tkW T n rs wo s b (A' bst) (hr + 401)))), iv (gI s4 58 (nI to).toNatClampNeg), iv (nI to), rf 58] s4
                refine hP _ _ _ _ (at_street T rfl hXN3.2.2.1 rfl rfl hs rfl (fun c3 hc3 => ?_))
                refine grd (b := isOb (kd true s4 c3) _) (by rw [hc3.1]; rfl) ?_
                refine mcall (j_minI G g l (d+53) s4 _ _ (fN (A' to)) (tkW T n rs wo s b (A' bst) (hr + 401) + Ttk T s) est (show nI (fN (tkW T n rs wo s b (A' bst) (hr + 401))) + gI s4 c3 3 = _ from by rw [hc3.2.2.2.1, fN_of hne, nI_add]) (by omega) (by omega)) (fun r s5 h9 => ?_)
                obtain ⟨rfl, f9⟩ := h9
                subst f9
                refine And.intro vto ?_
                refine next (updN A' to (min (A' to) (tkW T n rs wo s b (A' bst) (hr + 401) + Ttk T s))) _ _ _ ⟨hL3.1.a rfl, ?_, fun p hp => ?_, fun p hp => ?_, fun p hp => ?_⟩ d1 (fun q hq hd => ?_)
                · rw [gI_sI, if_neg (by omega)]; exact hL3.2.1
                · unfold updN
                  split
                  · rename_i e
                    have := hL3.2.2.1 to hto
                    right; omega
                  · exact hL3.2.2.1 p hp
                · rw [gI_sI, cto]
                  unfold updN
                  by_cases e : p = to
                  · rw [if_pos ⟨rfl, e⟩, if_pos e]
                    congr 1
                    unfold NV at *
                    unfold fN
                    unfold NV
                    split <;> split <;> omega
                  · rw [if_neg (fun q => e q.2), if_neg e]
                    exact hL3.2.2.2.1 p hp
                · rw [gI_sI, if_neg (by omega)]; exact hL3.2.2.2.2 p hp
                · have hq2 : q ≠ to := fun e => by rw [e, hDt] at hd; cases hd
                  have hb2 : bst ≠ to := fun e => by rw [e, hDt] at hDb; cases hDb
                  unfold updN
                  rw [if_neg hq2, if_neg hb2]
                  exact hle q hq hd
            · have q : ¬ gI s3 59 (nI to).toNatClampNeg = nI 0 := q
              rw [edo] at q
              have hDt : D' to = true := by
                cases hh : D' to with
                | true => rfl
                | false => rw [hh] at q; exact absurd rfl q
              refine next A' s3 _ _ hL2 (hD2.skip (fun q7 he h' ha hf hlp => ?_)) hle
              have hqt : q7 = to := by
                have := edge_other hT (wo := wo) (s := s) (p := bst) (q := q7) ⟨he.1, he.2.1, by rcases he.2.2 with ⟨a, b⟩ | ⟨a, b⟩; exact Or.inr ⟨b, a⟩; exact Or.inl ⟨b, a⟩⟩
                rw [ho] at this
                exact (Option.some.inj this).symm
              have := hle to hto hDt
              rw [hqt]
              omega
      -- the best
      have seek : ∀ (j p : Nat) (o7 o8 : Option AV), p + j = Tnp T → P 36 [some tX, some (iv (nI src)), some (iv (nI b)), some (iv (nI hr)), some (iv (nI k)), some (iv (optI (bestF A D p))), some (iv (nI p)), o7, o8] [] s1 := by
        intro j
        induction j with
        | zero =>
          intro p o7 o8 hj
          have ep : p = Tnp T := by omega
          refine hP _ _ _ _ ?_
          refine mcall (x_placeMany G g l (d+52) s1 T hXN.2.2.1) (fun r s2 h9 => ?_)
          obtain ⟨rfl, e9⟩ := h9
          subst e9
          refine And.intro (fun _ => ?_) (fun q => absurd (nI_le (by omega) (by omega)) q)
          show P 67 [some tX, some (iv (nI src)), some (iv (nI b)), some (iv (nI hr)), some (iv (nI k)), some (iv (optI (bestF A D p))), some (iv (nI p)), o7, o8] [] s2
          cases hb : bestF A D p with
          | none =>
            refine hP _ _ _ _ ?_
            refine And.intro (fun q => absurd rfl q) (fun _ => ⟨rfl, fin_ A D c lim s2 hL hD hk (fun q hq ha => bestF_none p hb q (by omega) ha)⟩)
          | some bst =>
            obtain ⟨b1, b2, b3, b4⟩ := bestF_some p bst hb
            refine hP _ _ _ _ ?_
            refine And.intro (fun _ => ?_) (fun q => absurd q (nI_neg1 (by omega)))
            have vb : vp_in (nI bst) 9 := vinN (by omega) (by decide)
            have cb : (nI bst).toNatClampNeg = bst := clN (by omega)
            refine And.intro vb ?_
            have hst := hD.start hk (by omega : bst < Tnp T) b2 b3 (fun q hq hd => by
              by_cases e : A q = NV
              · rw [e]; exact hL.2.2.1.le (by omega)
              · exact b4 q (by omega) hd e)
            have hcn := cntD_set (D := D) (m := Tnp T) (b := bst) (by omega) b2
            refine spread bst (by omega) (Tns T) 0 A (fun p => if p = bst then true else D p) _ _ _ (by omega) ⟨hL.1.a rfl, ?_, hL.2.2.1, fun q hq => ?_, fun q hq => ?_⟩ hst.1 (by simp) (fun q hq hd => ?_) (by omega)
            · rw [gI_sI, if_neg (by omega)]; exact hL.2.1
            · rw [gI_sI, if_neg (by omega)]; exact hL.2.2.2.1 q hq
            · show gI (sI s2 59 (nI bst).toNatClampNeg (vp_nar (tyOf 1) (nI 1))) 59 q = _
              rw [gI_sI, cb]
              show _ = bI (if q = bst then true else D q)
              by_cases e : q = bst
              · rw [if_pos ⟨rfl, e⟩, if_pos e]; rfl
              · rw [if_neg (fun z => e z.2), if_neg e]; exact hL.2.2.2.2 q hq
            · by_cases e : q = bst
              · rw [e]; exact Nat.le_refl _
              · exact hst.2 q hq (by simpa [e] using hd)
        | succ j ihj =>
          intro p o7 o8 hj
          have hp : p < Tnp T := by omega
          have next : ∀ x : Int32, x = optI (bestF A D (p+1)) → P 65 [some tX, some (iv (nI src)), some (iv (nI b)), some (iv (nI hr)), some (iv (nI k)), some (iv x), some (iv (nI p)), o7, o8] [] s1 := by
            intro x hx
            refine hP _ _ _ _ ?_
            show P 36 [some tX, some (iv (nI src)), some (iv (nI b)), some (iv (nI hr)), some (iv (nI k)), some (iv x), some (iv (nI p + nI 1)), o7, o8] [] s1
            rw [nI_add, hx]
            exact ihj (p+1) o7 o8 (by omega)
          have vpp : vp_in (nI p) 9 := vinN (by omega) (by decide)
          have cp : (nI p).toNatClampNeg = p := clN (by omega)
          have edo : gI s1 59 (nI p).toNatClampNeg = bI (D p) := by rw [cp]; exact hL.2.2.2.2 p hp
          have esp : gI s1 58 (nI p).toNatClampNeg = nI (fN (A p)) := by rw [cp]; exact hL.2.2.2.1 p hp
          have hAp := hL.2.2.1.le hp
          have fAp := fN_le hAp
          refine hP _ _ _ _ ?_
          refine mcall (x_placeMany G g l (d+52) s1 T hXN.2.2.1) (fun r s2 h9 => ?_)
          obtain ⟨rfl, e9⟩ := h9
          subst e9
          refine And.intro (fun q => absurd q (nI_ge (by omega) (by omega))) (fun _ => And.intro vpp (And.intro (fun q => ?_) (fun q => And.intro vpp (And.intro (fun q2 => ?_) (fun q2 => ?_)))))
          · have q : ¬ gI s2 59 (nI p).toNatClampNeg = nI 0 := q
            rw [edo] at q
            have hD1 : D p = true := by
              cases hh : D p with
              | true => rfl
              | false => rw [hh] at q; exact absurd rfl q
            exact next _ (by conv => rhs; unfold bestF
                             rw [if_neg (fun z => by rw [hD1] at z; cases z.1)])
          · have q2 : nI 100000000 ≤ gI s2 58 (nI p).toNatClampNeg := q2
            rw [esp, nI_leI (by omega) (by omega)] at q2
            have e : A p = NV := by
              rcases Nat.lt_or_ge (fN (A p)) 100000000 with h8 | h8
              · omega
              · by_cases e : A p = NV
                · exact e
                · exact absurd ((fN_lt hAp).mpr e) (by omega)
            exact next _ (by conv => rhs; unfold bestF
                             rw [if_neg (fun z => z.2.1 e)])
          · have q : gI s2 59 (nI p).toNatClampNeg = nI 0 := q
            rw [edo] at q
            have hD1 : D p = false := by
              cases hh : D p with
              | false => rfl
              | true => rw [hh] at q; exact absurd q (by decide)
            have q2 : ¬ nI 100000000 ≤ gI s2 58 (nI p).toNatClampNeg := q2
            rw [esp, nI_leI (by omega) (by omega)] at q2
            have e : A p ≠ NV := (fN_lt hAp).mp (by omega)
            cases hb : bestF A D p with
            | none =>
              refine And.intro (fun _ => ?_) (fun q => absurd rfl q)
              exact next _ (by conv => rhs; unfold bestF
                               rw [if_pos ⟨hD1, e, by rw [hb]; rfl⟩]
                               rfl)
            | some bst =>
              obtain ⟨b1, b2, b3, b4⟩ := bestF_some p bst hb
              have vb : vp_in (nI bst) 9 := vinN (by omega) (by decide)
              have cb : (nI bst).toNatClampNeg = bst := clN (by omega)
              have hAb := hL.2.2.1.le (by omega : bst < Tnp T)
              have esb : gI s2 58 (nI bst).toNatClampNeg = nI (fN (A bst)) := by rw [cb]; exact hL.2.2.2.1 bst (by omega)
              have fAb := fN_le hAb
              refine And.intro (fun q => absurd q (nI_neg1 (by omega))) (fun _ => And.intro vpp (And.intro vb (And.intro (fun q3 => ?_) (fun q3 => ?_))))
              · have q3 : gI s2 58 (nI bst).toNatClampNeg ≤ gI s2 58 (nI p).toNatClampNeg := q3
                rw [esp, esb, nI_leI (by omega) (by omega)] at q3
                have q4 : ¬ A p < A bst := fun z => by have := (fN_lt2 hAp hAb).mpr z; omega
                exact next _ (by conv => rhs; unfold bestF
                                 rw [if_neg (fun z => by have := z.2.2; rw [hb] at this; exact q4 (of_decide_eq_true this)), hb])
              · have q3 : ¬ gI s2 58 (nI bst).toNatClampNeg ≤ gI s2 58 (nI p).toNatClampNeg := q3
                rw [esp, esb, nI_leI (by omega) (by omega)] at q3
                have q4 : A p < A bst := (fN_lt2 hAp hAb).mp (by omega)
                exact next _ (by conv => rhs; unfold bestF
                                 rw [if_pos ⟨hD1, e, by rw [hb]; exact decide_eq_true q4⟩]
                                 rfl)
      exact seek (Tnp T) 0 _ _ (by omega)
  -- the first labels
  have first : ∀ (m p : Nat) (t : AS), p + m = Tnp T → xS [18] [14, 58, 59] σ t → gI t 0 18 = nI hr → (∀ q, q < p → gI t 58 q = nI (fN (initA src hr q)) ∧ gI t 59 q = bI false) → P 5 [some tX, some (iv (nI src)), some (iv (nI b)), some (iv (nI hr)), some (iv (nI p)), none, none, none, none] [] t := by
    intro m
    induction m with
    | zero =>
      intro p t hm hS hO hI
      have hXN := h.xs hS rfl rfl
      refine hP _ _ _ _ ?_
      refine mcall (x_placeMany G g l (d+52) t T hXN.2.2.1) (fun r s1 h9 => ?_)
      obtain ⟨rfl, e9⟩ := h9
      subst e9
      refine And.intro (fun _ => ?_) (fun q => absurd (nI_le (by omega) (by omega)) q)
      refine big (Tnp T) 0 (initA src hr) (fun _ => false) 0 12 s1 _ _ _ _ (by omega) ⟨hS, hO, fun p hp => ?_, fun q hq => (hI q (by omega)).1, fun q hq => (hI q (by omega)).2⟩ ⟨fun q hq hne => ⟨0, ?_, ?_⟩, ?_, fun p hp hd => absurd (show false = true from hd) (by decide), fun p q hp hq hd => absurd (show false = true from hd) (by decide), fun p q s h hp hd => absurd (show false = true from hd) (by decide)⟩ (fun p s he => by have := he.1; omega) (Nat.zero_le _)
      · unfold initA
        split
        · right; omega
        · left; rfl
      · unfold initA at hne
        by_cases e : q = src
        · exact e
        · rw [if_neg e] at hne; exact absurd rfl hne
      · unfold initA at hne ⊢
        by_cases e : q = src
        · rw [if_pos e]
        · rw [if_neg e] at hne; exact absurd rfl hne
      · unfold initA; rw [if_pos rfl]; exact Nat.le_refl _
    | succ m ih =>
      intro p t hm hS hO hI
      have hXN := h.xs hS rfl rfl
      have vpp : vp_in (nI p) 9 := vinN (by omega) (by decide)
      have cp : (nI p).toNatClampNeg = p := clN (by omega)
      have st : ∀ v : Int32, v = nI (fN (initA src hr p)) → P 18 [some tX, some (iv (nI src)), some (iv (nI b)), some (iv (nI hr)), some (iv (nI p)), none, none, none, none] [iv v, iv (nI p), rf 58] t := by
        intro v hv
        refine hP _ _ _ _ (And.intro vpp (And.intro vpp ?_))
        show P 5 [some tX, some (iv (nI src)), some (iv (nI b)), some (iv (nI hr)), some (iv (nI p + nI 1)), none, none, none, none] [] (sI (sI t 58 (nI p).toNatClampNeg v) 59 (nI p).toNatClampNeg (vp_nar (tyOf 1) (nI 0)))
        rw [nI_add, cp]
        refine ih (p+1) _ (by omega) ((hS.a rfl).a rfl) ?_ (fun q hq => ⟨?_, ?_⟩)
        · rw [gI_sI, if_neg (by omega), gI_sI, if_neg (by omega)]; exact hO
        · rw [gI_sI, if_neg (by omega), gI_sI]
          by_cases e : q = p
          · rw [if_pos ⟨rfl, e⟩, e]; exact hv
          · rw [if_neg (fun z => e z.2)]; exact (hI q (by omega)).1
        · rw [gI_sI]
          by_cases e : q = p
          · rw [if_pos ⟨rfl, e⟩]; rfl
          · rw [if_neg (fun z => e z.2), gI_sI, if_neg (by omega)]; exact (hI q (by omega)).2
      refine hP _ _ _ _ ?_
      refine mcall (x_placeMany G g l (d+52) t T hXN.2.2.1) (fun r s1 h9 => ?_)
      obtain ⟨rfl, e9⟩ := h9
      subst e9
      refine And.intro (fun q => absurd q (nI_ge (by omega) (by omega))) (fun _ => And.intro (fun q => ?_) (fun q => ?_))
      · have q : ¬ nI p = nI src := q
        rw [nI_eq (by omega) (by omega)] at q
        exact st _ (by unfold initA; rw [if_neg q, fN_NV])
      · have q : nI p = nI src := q
        rw [nI_eq (by omega) (by omega)] at q
        exact st _ (by unfold initA; rw [if_pos q, fN_of (by unfold NV; omega)])
  refine hP _ _ _ _ ?_
  exact first (Tnp T) 0 _ (by omega) (xS.rf.f rfl) (by rw [gI_sI, if_pos ⟨rfl, rfl⟩]) (fun q hq => by omega)
end LA_
