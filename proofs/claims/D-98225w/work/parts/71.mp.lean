section MP
variable (G : CX) (g : GX) (l : Launch) (d : Nat) (σ : AS)
theorem MNw.wk {T : Twn} {n : Nws} {σ : AS} (hT : TOK T) (h : MNw T n σ) (w a b f : Nat) (hw : w < Tnw T) : MNw T (setWk n w a b f) (sI (sI (sI σ 230 (13 + 3 * w) (nI a)) 230 (13 + 3 * w + 1) (nI b)) 230 (13 + 3 * w + 2) (nI f)) := by
  have := hT.1
  refine ⟨?_, fun s hs => ?_, fun j hj => ?_⟩
  · simp only [gI_sI]
    rw [if_neg (by omega), if_neg (by omega), if_neg (by omega)]
    exact h.1
  · simp only [gI_sI]
    rw [if_neg (by omega), if_neg (by omega), if_neg (by omega)]
    exact h.2.1 s hs
  · simp only [gI_sI]
    by_cases e : j = w
    · subst e
      simp [setWk, Nat_, Nto, Nfr]
    · have h3 := h.2.2 j hj
      rw [if_neg (by omega), if_neg (by omega), if_neg (by omega), if_neg (by omega), if_neg (by omega), if_neg (by omega), if_neg (by omega), if_neg (by omega), if_neg (by omega)]
      simpa [setWk, Nat_, Nto, Nfr, e] using h3
/-- a walker can be sent -/
def okSend (T : Twn) (n : Nws) (a : Int32) : Prop := inR a (Tnw T) = true ∧ EAw T n [] 99 a.toNatClampNeg (Nto n a.toNatClampNeg) ≠ NV ∧ EAw T n [] 99 a.toNatClampNeg (Nto n a.toNatClampNeg) ≤ 9999
noncomputable def sendN (T : Twn) (n : Nws) (w : Nat) : Nws := setWk n w (Nto n w) (Nat_ n w) (EAw T n [] 99 w (Nto n w))
set_option maxHeartbeats 2000000 in
theorem c_send (T : Twn) (n : Nws) (ks : List Nws) (h : TN T n σ) (hK : MKp T ks σ) (a : Int32) : MC G g l (d+15) mX6_send [tM, iv a] σ (fun r t => (okSend T n a → r = some (iv (nI (EAw T n [] 99 a.toNatClampNeg (Nto n a.toNatClampNeg)))) ∧ mS [43, 47, 51, 63, 64] [228, 229, 230, 232, 233, 234, 242] σ t ∧ MNw T (sendN T n a.toNatClampNeg) t ∧ MKp T ((n :: ks).take 20) t) ∧ (¬ okSend T n a → r = some (iv (- nI 1)) ∧ mS [43, 47, 51] [202, 228, 229, 232, 233, 234] σ t ∧ RefInc 2 σ t)) := by
  have h12 := h.1.1
  refine MC1 tX6_send [16] rfl okX6_send rfl rfl rfl rfl (fun P hP => ?_)
  have no : ∀ τ, mS [43, 47, 51] [228, 229, 232, 233, 234] σ τ → ¬ okSend T n a → P 16 [some tM, some (iv a), none, none] [] τ := by
    intro τ hS e
    refine hP _ _ _ _ (And.intro (vin 2 6 rfl rfl) (And.intro (vin 2 6 rfl rfl) ⟨fun q => absurd q e, fun _ => ⟨rfl, (hS.mono rfl rfl).a rfl, ?_⟩⟩))
    have r := RefInc.mk 2 τ
    exact ⟨by rw [← hS.ia 202 rfl rfl]; exact r.1, fun j hj => by rw [← hS.ia 202 rfl rfl]; exact r.2 j hj⟩
  refine hP _ _ _ _ ?_
  refine mcall (c_isWalker G g l (d+12) σ T a h.2.2.1 h.1) (fun r s' h9 => ?_)
  obtain ⟨rfl, rfl⟩ := h9
  cases ha : inR a (Tnw T) with
  | false => exact And.intro (fun _ => no _ mS.rf (fun e => by have e1 := e.1; rw [ha] at e1; cases e1)) (fun q => absurd rfl q)
  | true =>
    refine And.intro (fun q => absurd q (by decide)) (fun _ => ?_)
    obtain ⟨w, hw, rfl⟩ := inR_of ha (by omega)
    have cw : (nI w).toNatClampNeg = w := clN (by omega)
    have hat := at_np h.1 h.2.1 hw
    refine mcall (c_hasWay G g l d _ T n h _ w rfl hw) (fun r s2 h9 => ?_)
    obtain ⟨rfl, hS, -, hM, hE, -⟩ := h9
    by_cases hN : EAw T n [] 99 w (Nto n w) = NV
    · rw [decide_eq_false (fun e => e hN)]
      exact And.intro (fun _ => no _ hS (fun e => by unfold okSend at e; rw [cw] at e; exact e.2.1 hN)) (fun q => absurd rfl q)
    · rw [decide_eq_true hN]
      refine And.intro (fun q => absurd q (by decide)) (fun _ => ?_)
      have hle : EAw T n [] 99 w (Nto n w) ≤ 10400 := by rcases hE.le h.2.1 hw hat.2.1 with e | e; exact absurd e hN; exact e
      have T2 := h.keep hS rfl rfl
      refine mcall (c_goalOf G g l (d+13) s2 T n T2.2.2.2 _ w rfl hw h.1) (fun r s3 h9 => ?_)
      obtain ⟨rfl, rfl⟩ := h9
      have vg : vp_in (nI (Nto n w)) 9 := vinN (by omega) (by decide)
      have gg : gI s3 232 (nI (Nto n w)).toNatClampNeg = nI (EAw T n [] 99 w (Nto n w)) := by rw [clN (by omega), hM _ hat.2.1]
      refine And.intro vg (And.intro (fun q => ?_) (fun q => ?_))
      · have q : gI s3 232 (nI (Nto n w)).toNatClampNeg ≤ nI 9999 := q
        rw [gg, nI_leI (by omega) (by omega)] at q
        have ok : okSend T n (nI w) := by unfold okSend; rw [cw]; exact ⟨ha, hN, q⟩
        refine mcall (c_goalOf G g l (d+13) s3 T n T2.2.2.2 _ w rfl hw h.1) (fun r s4 h9 => ?_)
        obtain ⟨rfl, rfl⟩ := h9
        refine And.intro vg ?_
        refine mcall (c_keeps G g l (d+13) s4 T n ks h.1 h.2.1 T2.2.2.2 (hK.keep hS rfl rfl)) (fun r s5 h9 => ?_)
        obtain ⟨rfl, S5, K5⟩ := h9
        have T5 := T2.keep S5 rfl rfl
        refine mcall (c_placeOf G g l (d+13) s5 T n T5.2.2.2 _ w rfl hw h.1) (fun r s6 h9 => ?_)
        obtain ⟨rfl, rfl⟩ := h9
        refine mcall (c_goalOf G g l (d+13) s6 T n T5.2.2.2 _ w rfl hw h.1) (fun r s7 h9 => ?_)
        obtain ⟨rfl, rfl⟩ := h9
        have i0 : nI 13 + nI 3 * nI w = nI (13 + 3 * w) := ix2 13 3 w
        have i1 : nI 13 + nI 3 * nI w + nI 1 = nI (13 + 3 * w + 1) := ix3 13 3 w 1
        have i2 : nI 13 + nI 3 * nI w + nI 2 = nI (13 + 3 * w + 2) := ix3 13 3 w 2
        refine And.intro (show vp_in (nI 13 + nI 3 * nI w) 31 by rw [i0]; exact vinN (by omega) (by decide)) (And.intro (show vp_in (nI 13 + nI 3 * nI w + nI 1) 31 by rw [i1]; exact vinN (by omega) (by decide)) (And.intro (show vp_in (nI 13 + nI 3 * nI w + nI 2) 31 by rw [i2]; exact vinN (by omega) (by decide)) ⟨fun _ => ⟨?_, ?_, ?_, ?_⟩, fun q => absurd ok q⟩))
        · rw [cw]
          exact congrArg _ (congrArg _ gg)
        · exact ((((hS.mono rfl rfl).tr (S5.mono rfl rfl)).a rfl).a rfl).a rfl
        · rw [cw]
          have := T5.2.2.2.wk h.1 w (Nto n w) (Nat_ n w) (EAw T n [] 99 w (Nto n w)) hw
          show MNw T (sendN T n w) (sI (sI (sI s7 230 (nI 13 + nI 3 * nI w).toNatClampNeg (nI (Nto n w))) 230 (nI 13 + nI 3 * nI w + nI 1).toNatClampNeg (nI (Nat_ n w))) 230 (nI 13 + nI 3 * nI w + nI 2).toNatClampNeg (gI s4 232 (nI (Nto n w)).toNatClampNeg))
          rw [i1, i2, i0, clN (by omega), clN (by omega), clN (by omega), gg]
          exact this
        · exact ((K5.keep (mS.a (fs := []) (ids := [230]) mS.rf rfl) rfl rfl).keep (mS.a (fs := []) (ids := [230]) mS.rf rfl) rfl rfl).keep (mS.a (fs := []) (ids := [230]) mS.rf rfl) rfl rfl
      · have q : ¬ gI s3 232 (nI (Nto n w)).toNatClampNeg ≤ nI 9999 := q
        rw [gg, nI_leI (by omega) (by omega)] at q
        exact no _ hS (fun e => by unfold okSend at e; rw [cw] at e; exact q e.2.2)
/-- the streets without which there is no way, as bits -/
noncomputable def neededF (T : Twn) (n : Nws) (w : Nat) : Nat → Int32
  | 0 => nI 0
  | s+1 => @ite _ (EAw T n [] s w (Nto n w) = NV) (Classical.propDecidable _) (neededF T n w s ||| (nI 1 <<< (nI s &&& 31))) (neededF T n w s)
noncomputable def q_needed (T : Twn) (n : Nws) (a : Int32) : Int32 := @ite _ (inR a (Tnw T) = true ∧ EAw T n [] 99 a.toNatClampNeg (Nto n a.toNatClampNeg) ≠ NV) (Classical.propDecidable _) (neededF T n a.toNatClampNeg (Tns T)) (- nI 1)
set_option maxHeartbeats 2000000 in
theorem c_needed (T : Twn) (n : Nws) (h : TN T n σ) (a : Int32) : MC G g l (d+15) mX6_needed [tM, iv a] σ (fun r t => r = some (iv (q_needed T n a)) ∧ mS [43, 47, 51] [228, 229, 232, 233, 234] σ t) := by
  have h12 := h.1.1
  refine MC1 tX6_needed [8, 14, 36] rfl okX6_needed rfl rfl rfl rfl (fun P hP => ?_)
  have no : ∀ τ, mS [43, 47, 51] [228, 229, 232, 233, 234] σ τ → ¬ (inR a (Tnw T) = true ∧ EAw T n [] 99 a.toNatClampNeg (Nto n a.toNatClampNeg) ≠ NV) → P 8 [some tM, some (iv a), none, none] [] τ := by
    intro τ hS e
    exact hP _ _ _ _ ⟨by unfold q_needed; rw [if_neg e], hS⟩
  refine hP _ _ _ _ ?_
  refine mcall (c_isWalker G g l (d+12) σ T a h.2.2.1 h.1) (fun r s' h9 => ?_)
  obtain ⟨rfl, rfl⟩ := h9
  cases ha : inR a (Tnw T) with
  | false => exact And.intro (fun _ => no _ mS.rf (by rw [ha]; simp)) (fun q => absurd rfl q)
  | true =>
    refine And.intro (fun q => absurd q (by decide)) (fun _ => ?_)
    obtain ⟨w, hw, rfl⟩ := inR_of ha (by omega)
    have cw : (nI w).toNatClampNeg = w := clN (by omega)
    have hat := at_np h.1 h.2.1 hw
    refine mcall (c_hasWay G g l d _ T n h _ w rfl hw) (fun r s2 h9 => ?_)
    obtain ⟨rfl, hS, h47, -, -, -⟩ := h9
    by_cases hN : EAw T n [] 99 w (Nto n w) = NV
    · rw [decide_eq_false (fun e => e hN)]
      exact And.intro (fun q => absurd rfl q) (fun _ => no _ hS (by rw [cw]; exact fun e => e.2 hN))
    · rw [decide_eq_true hN]
      refine And.intro (fun _ => ?_) (fun q => absurd q (by decide))
      have eq : q_needed T n (nI w) = neededF T n w (Tns T) := by unfold q_needed; rw [cw, if_pos ⟨ha, hN⟩]
      have key : ∀ (m s : Nat) (τ : AS), s + m = Tns T → mS [43, 47, 51] [228, 229, 232, 233, 234] s' τ → gI τ 200 47 = nI 0 → P 14 [some tM, some (iv (nI w)), some (iv (neededF T n w s)), some (iv (nI s))] [] τ := by
        intro m
        induction m with
        | zero =>
          intro s τ hm hS h47
          have hs : s = Tns T := by omega
          refine hP _ _ _ _ ?_
          refine mcall (c_streetMany G g l (d+13) τ) (fun r s3 h9 => ?_)
          obtain ⟨rfl, rfl⟩ := h9
          rw [(h.2.2.1.keep hS rfl).2.1]
          exact And.intro (fun _ => ⟨by rw [eq, hs], hS⟩) (fun q => absurd (nI_le (by omega) (by omega)) q)
        | succ m ih =>
          intro s τ hm hS h47
          have hs : s < Tns T := by omega
          refine hP _ _ _ _ ?_
          refine mcall (c_streetMany G g l (d+13) τ) (fun r s3 h9 => ?_)
          obtain ⟨rfl, rfl⟩ := h9
          rw [(h.2.2.1.keep hS rfl).2.1]
          refine And.intro (fun q => absurd q (nI_ge (by omega) (by omega))) (fun _ => ?_)
          refine mcall (c_spreadsFor G g l (d+2) s3 T n (h.keep hS rfl rfl) [] ⟨h47, by simp, fun k r hr => by simp at hr⟩ _ _ w s rfl hw (fun j hj => ⟨fun e => (nI_eq (by omega) (by omega)).mp e, fun e => by rw [e]⟩)) (fun r s4 h9 => ?_)
          obtain ⟨rfl, S4, M4, E4⟩ := h9
          have S4' := hS.tr (S4.mono rfl rfl)
          have go : ∀ v : Int32, v = neededF T n w (s+1) → P 36 [some tM, some (iv (nI w)), some (iv v), some (iv (nI s))] [] s4 := by
            intro v hv
            subst hv
            refine hP _ _ _ _ ?_
            show P 14 [some tM, some (iv (nI w)), some (iv (neededF T n w (s+1))), some (iv (nI s + nI 1))] [] s4
            rw [nI_add]
            refine ih (s+1) s4 (by omega) S4' ?_
            rw [S4.i 200 47 rfl rfl]
            exact h47
          refine mcall (c_goalOf G g l (d+13) s4 T n (h.2.2.2.keep S4' rfl) _ w rfl hw h.1) (fun r s5 h9 => ?_)
          obtain ⟨rfl, rfl⟩ := h9
          have gg : gI s5 232 (nI (Nto n w)).toNatClampNeg = nI (EAw T n [] s w (Nto n w)) := by rw [clN (by omega), M4 _ hat.2.1]
          have h9 := E4.2 (Nto n w)
          unfold NV at h9
          refine And.intro (show vp_in (nI (Nto n w)) 9 from vinN (by omega) (by decide)) (And.intro (fun q => ?_) (fun q => ?_))
          · have q : ¬ gI s5 232 (nI (Nto n w)).toNatClampNeg = nI 1000000 := q
            rw [gg, nI_eq (by omega) (by omega)] at q
            have q : ¬ EAw T n [] s w (Nto n w) = NV := q
            exact go _ (by show neededF T n w s = neededF T n w (s+1); conv => rhs; unfold neededF
                           rw [if_neg q])
          · have q : gI s5 232 (nI (Nto n w)).toNatClampNeg = nI 1000000 := q
            rw [gg, nI_eq (by omega) (by omega)] at q
            have q : EAw T n [] s w (Nto n w) = NV := q
            exact go _ (by conv => rhs; unfold neededF
                           rw [if_pos q])
      exact key (Tns T) 0 s2 (by omega) hS h47
/-- whether a procession of k hours more is through that sets out in an hour; its way told forwards -/
def paradeF (T : Twn) (n : Nws) (b k : Nat) : List (Nat × Nat) → Nat → Bool
  | [], _ => true
  | x :: r, h => wideF T n x.1 b h (Ttk T x.1 + k) && paradeF T n b k r (h + Ttk T x.1)
set_option maxHeartbeats 1000000 in
theorem c_isParade (T : Twn) (n : Nws) (h : TN T n σ) (ws : List (Nat × Nat)) (hW : MWay ws σ) (h8 : ws.length ≤ 12) (hws : ∀ (k : Nat) (x : Nat × Nat), ws[k]? = some x → x.1 < Tns T) (x y z : Int32) (w k hr : Nat) (hx : x = nI w) (hy : y = nI k) (hz : z = nI hr) (hw : w < Tnw T) (hk : k ≤ 48) (h1 : hr ≤ 100000) :
    MC G g l (d+7) mX6_isParade [tM, iv x, iv y, iv z] σ (fun r t => r = some (iv (bI (paradeF T n (Tbr T w) k ws.reverse hr))) ∧ mS [43] [228, 229] σ t) := by
  subst hx; subst hy; subst hz
  have h12 := h.1.1
  have hb := (h.1.2.2 w hw).1
  refine MC1 tX6_isParade [7] rfl okX6_isParade rfl rfl rfl rfl (fun P hP => ?_)
  have key : ∀ (i hc : Nat) (v : Int32) (x6 : Option AV) (τ : AS), v = nI i - nI 1 → i ≤ ws.length → hc ≤ hr + 4 * (ws.length - i) → mS [43] [228, 229] σ τ → paradeF T n (Tbr T w) k ws.reverse hr = paradeF T n (Tbr T w) k (ws.take i).reverse hc → P 7 [some tM, some (iv (nI w)), some (iv (nI k)), some (iv (nI hr)), some (iv (nI hc)), some (iv v), x6] [] τ := by
    intro i
    induction i with
    | zero =>
      intro hc v x6 τ hv hi hhc hS hf
      refine hP _ _ _ _ (And.intro (fun _ => ⟨nar1, by rw [hf]; rfl, hS⟩) (fun q => ?_))
      exact absurd (by rw [hv]; decide) q
    | succ i ih =>
      intro hc v x6 τ hv hi hhc hS hf
      have hv : v = nI i := hv.trans (nI_pred i)
      subst hv
      obtain ⟨x, hx⟩ : ∃ x, ws[i]? = some x := ⟨_, List.getElem?_eq_getElem (by omega)⟩
      have hxs := hws i x hx
      have ht := (h.1.2.1 x.1 hxs).2.2.2.1
      have hTN := h.keep hS rfl rfl
      have e6 : gI τ 233 (nI i).toNatClampNeg = nI x.1 := by rw [clN (by omega), ((hW.keep hS rfl rfl).2 i x hx).1]
      have etk : (ws.take (i+1)).reverse = x :: (ws.take i).reverse := by rw [List.take_succ, hx]; simp
      rw [etk] at hf
      refine hP _ _ _ _ (And.intro (fun q => absurd q (nI_pos (by omega))) (fun _ => And.intro (show vp_in (nI i) 12 from vinN (by omega) (by decide)) ?_))
      refine mcall (c_broadOf G g l (d+5) τ T hTN.2.2.1 _ w rfl hw h.1) (fun r s1 h9 => ?_)
      obtain ⟨rfl, rfl⟩ := h9
      refine mcall (c_takesOf G g l (d+5) s1 T hTN.2.2.1 _ x.1 e6 hxs h.1) (fun r s2 h9 => ?_)
      obtain ⟨rfl, rfl⟩ := h9
      refine mcall (c_isWide G g l d s2 T n hTN _ _ _ _ x.1 (Tbr T w) hc (Ttk T x.1 + k) e6 rfl rfl (nI_add _ _) hxs (by omega) (by omega) (by omega)) (fun r s3 h9 => ?_)
      obtain ⟨rfl, S3⟩ := h9
      have S3' := hS.tr S3
      cases hwd : wideF T n x.1 (Tbr T w) hc (Ttk T x.1 + k) with
      | false =>
        refine And.intro (fun q => absurd rfl q) (fun _ => ⟨nar0, ?_, S3'⟩)
        rw [hf]
        unfold paradeF
        rw [hwd]
        rfl
      | true =>
        refine And.intro (fun _ => ?_) (fun q => absurd q (by decide))
        refine mcall (c_takesOf G g l (d+5) s3 T (h.2.2.1.keep S3' rfl) _ x.1 e6 hxs h.1) (fun r s4 h9 => ?_)
        obtain ⟨rfl, rfl⟩ := h9
        show P 7 [some tM, some (iv (nI w)), some (iv (nI k)), some (iv (nI hr)), some (iv (nI hc + nI (Ttk T x.1))), some (iv (nI i - nI 1)), some (iv (gI s2 233 (nI i).toNatClampNeg))] [] s4
        rw [nI_add]
        refine ih (hc + Ttk T x.1) _ _ s4 rfl (by omega) (by omega) S3' ?_
        rw [hf]
        conv => lhs; unfold paradeF
        rw [hwd]
        rfl
  refine hP _ _ _ _ ?_
  exact key ws.length hr _ none σ (by show gI σ 200 51 - nI 1 = _; rw [hW.1]) (Nat.le_refl _) (by omega) mS.rf (by rw [List.take_of_length_le (Nat.le_refl _)])
end MP
