section SE_
variable (G : CX) (g : GX) (l : Launch) (d : Nat) (σ : AS)
theorem XNw.wk {T : Twn} {n : Nws} {σ : AS} (h : XNw T n σ) (w a b f : Nat) : XNw T (setWk n w a b f) (sI (sI (sI σ 20 w (nI f)) 18 w (nI a)) 19 w (nI b)) := by
  refine ⟨?_, fun s hs => ?_, fun j hj => ?_⟩
  · rw [gI_sI, if_neg (by omega), gI_sI, if_neg (by omega), gI_sI, if_neg (by omega)]; exact h.1
  · rw [gI_sI, if_neg (by omega), gI_sI, if_neg (by omega), gI_sI, if_neg (by omega)]; exact h.2.1 s hs
  · have h3 := h.2.2 j hj
    by_cases e : j = w
    · subst e
      refine ⟨?_, ?_, ?_⟩
      · rw [gI_sI, if_neg (by omega), gI_sI, if_pos ⟨rfl, rfl⟩]; simp [setWk, Nat_]
      · rw [gI_sI, if_pos ⟨rfl, rfl⟩]; simp [setWk, Nto]
      · rw [gI_sI, if_neg (by omega), gI_sI, if_neg (by omega), gI_sI, if_pos ⟨rfl, rfl⟩]; simp [setWk, Nfr]
    · refine ⟨?_, ?_, ?_⟩
      · rw [gI_sI, if_neg (by omega), gI_sI, if_neg (by omega), gI_sI, if_neg (by omega), h3.1]; simp [setWk, Nat_, e]
      · rw [gI_sI, if_neg (by omega), gI_sI, if_neg (by omega), gI_sI, if_neg (by omega), h3.2.1]; simp [setWk, Nto, e]
      · rw [gI_sI, if_neg (by omega), gI_sI, if_neg (by omega), gI_sI, if_neg (by omega), h3.2.2]; simp [setWk, Nfr, e]
def sIds : List Nat := [14, 58, 59, 60, 61] ++ aIds
set_option maxHeartbeats 2000000 in
theorem x_send (T : Twn) (n : Nws) (ks : List Nws) (h : XB T n σ) (hK : XKp T ks σ) (hz : 268 ≤ zn σ) (a : Int32) : MC G g l (d+58) mX0_send [tX, iv a] σ (fun r t => (okSend T n a → r = some (iv (nI (EAw T n [] 99 a.toNatClampNeg (Nto n a.toNatClampNeg)))) ∧ yS [17, 18, 28] sIds σ t ∧ XNw T (sendN T n a.toNatClampNeg) t ∧ XKp T ((n :: ks).take 20) t) ∧ (¬ okSend T n a → r = some (iv (- nI 1)) ∧ xS [17, 18] [14, 15, 58, 59, 60, 61] σ t ∧ XInc 2 σ t)) := by
  have h12 := h.1.1.1
  refine MC1 tX0_send [18, 36, 42, 43, 52] rfl okX0_send rfl rfl rfl rfl (fun P hP => ?_)
  have no : ∀ τ, xS [17, 18] [14, 58, 59, 60, 61] σ τ → ¬ okSend T n a → P 18 [some tX, some (iv a), none] [] τ := by
    intro τ hS e
    refine hP _ _ _ _ ?_
    refine mcall (x_refuses G g l (d+56) τ _ 2 rfl (by omega)) (fun r s2 h9 => ?_)
    obtain ⟨rfl, e9⟩ := h9
    subst e9
    exact ⟨fun z => absurd z e, fun _ => ⟨rfl, (hS.mono rfl rfl).a rfl, (XInc.mk 2 τ).pre (fun j => hS.ia 15 rfl rfl j)⟩⟩
  refine hP _ _ _ _ ?_
  refine mcall (x_isWalker G g l (d+54) σ T a h.1.2.2.1 h.1.1) (fun r s' h9 => ?_)
  obtain ⟨rfl, rfl⟩ := h9
  cases ha : inR a (Tnw T) with
  | false => exact And.intro (fun _ => no _ xS.rf (fun e => by have e1 := e.1; rw [ha] at e1; cases e1)) (fun q => absurd rfl q)
  | true =>
    refine And.intro (fun q => absurd q (by decide)) (fun _ => ?_)
    obtain ⟨w, hw, rfl⟩ := inR_of ha (by omega)
    have cw : (nI w).toNatClampNeg = w := clN (by omega)
    have vw : vp_in (nI w) 6 := vinN (by omega) (by decide)
    have hat := at_np h.1.1 h.1.2.1 hw
    refine mcall (x_goes G g l d _ T n h.1 [] h.2.1 99 h.2.2 _ w rfl hw) (fun r s2 h9 => ?_)
    obtain ⟨rfl, hS, hM, hE, -⟩ := h9
    by_cases hN : EAw T n [] 99 w (Nto n w) = NV
    · rw [decide_eq_false (fun e => e hN)]
      exact And.intro (fun _ => no _ hS (fun e => by unfold okSend at e; rw [cw] at e; exact e.2.1 hN)) (fun q => absurd rfl q)
    · rw [decide_eq_true hN]
      refine And.intro (fun q => absurd q (by decide)) (fun _ => ?_)
      have hle : EAw T n [] 99 w (Nto n w) ≤ 10400 := by rcases hE.le h.1.2.1 hw hat.2.1 with e | e; exact absurd e hN; exact e
      have gto : ∀ u, XNw T n u → gI u 19 (nI w).toNatClampNeg = nI (Nto n w) := fun u hu => by rw [cw]; exact (hu.2.2 w hw).2.1
      have gat : ∀ u, XNw T n u → gI u 18 (nI w).toNatClampNeg = nI (Nat_ n w) := fun u hu => by rw [cw]; exact (hu.2.2 w hw).1
      have N2 := h.1.2.2.2.xs hS rfl
      have gg : ∀ u, XNw T n u → XLa T (EAw T n [] 99 w) u → gI u 58 (gI u 19 (nI w).toNatClampNeg).toNatClampNeg = nI (EAw T n [] 99 w (Nto n w)) := fun u hu hL => by rw [gto u hu, clN (by omega), hL _ hat.2.1, fN_of hN]
      have vg : ∀ u, XNw T n u → vp_in (gI u 19 (nI w).toNatClampNeg) 9 := fun u hu => by rw [gto u hu]; exact vinN (by omega) (by decide)
      refine And.intro vw (And.intro (vg s2 N2) (And.intro (fun q => ?_) (fun q => ?_)))
      · have q : gI s2 58 (gI s2 19 (nI w).toNatClampNeg).toNatClampNeg ≤ nI 9999 := q
        rw [gg s2 N2 hM, nI_leI (by omega) (by omega)] at q
        have ok : okSend T n (nI w) := by unfold okSend; rw [cw]; exact ⟨ha, hN, q⟩
        have hz2 : 268 ≤ zn s2 := by rw [zn_of hS.2]; exact hz
        refine mcall (x_keeps G g l (d+55) s2 T n ks h.1.1 h.1.2.1 N2 (hK.ys hS.y hz rfl rfl) hz2) (fun r s3 h9 => ?_)
        obtain ⟨rfl, S3, K3⟩ := h9
        have hz3 : 268 ≤ zn s3 := by rw [S3.2.1]; exact hz2
        have N3 := N2.ys S3 hz2 rfl
        have M3 : XLa T (EAw T n [] 99 w) s3 := fun p hp => by rw [(S3.i hz2 58 p rfl (by decide) rfl).1]; exact hM p hp
        refine And.intro vw (And.intro (vg s3 N3) ?_)
        show P 36 [some tX, some (iv (nI w)), none] [iv (gI s3 58 (gI s3 19 (nI w).toNatClampNeg).toNatClampNeg), iv (nI w), rf 20] s3
        rw [gg s3 N3 M3]
        refine hP _ _ _ _ (And.intro vw (And.intro vw ?_))
        generalize hu1 : sI s3 20 w (nI (EAw T n [] 99 w (Nto n w))) = u1
        show P 42 [some tX, some (iv (nI w)), none] [iv (gI (sI s3 20 (nI w).toNatClampNeg (nI (EAw T n [] 99 w (Nto n w)))) 18 (nI w).toNatClampNeg)] (sI s3 20 (nI w).toNatClampNeg (nI (EAw T n [] 99 w (Nto n w))))
        rw [cw, hu1]
        have g18 : gI u1 18 w = nI (Nat_ n w) := by rw [← hu1, gI_sI, if_neg (by omega)]; exact (N3.2.2 w hw).1
        have g19 : gI u1 19 w = nI (Nto n w) := by rw [← hu1, gI_sI, if_neg (by omega)]; exact (N3.2.2 w hw).2.1
        rw [g18]
        refine hP _ _ _ _ ?_
        show P 43 [some tX, some (iv (nI w)), some (iv (nI (Nat_ n w)))] [] u1
        refine hP _ _ _ _ (And.intro vw ?_)
        show P 52 [some tX, some (iv (nI w)), some (iv (nI (Nat_ n w)))] [iv (gI u1 19 (nI w).toNatClampNeg), iv (nI w), rf 18] u1
        rw [cw, g19]
        refine hP _ _ _ _ (And.intro vw (And.intro vw (And.intro vw ⟨fun _ => ⟨?_, ?_, ?_, ?_⟩, fun z => absurd ok z⟩)))
        · show some (iv (gI (sI (sI u1 18 (nI w).toNatClampNeg (nI (Nto n w))) 19 (nI w).toNatClampNeg (nI (Nat_ n w))) 20 (nI w).toNatClampNeg)) = _
          rw [cw, gI_sI, if_neg (by omega), gI_sI, if_neg (by omega), ← hu1, gI_sI, if_pos ⟨rfl, rfl⟩]
        · have X4 : xS [] [18, 19, 20] s3 (sI (sI u1 18 (nI w).toNatClampNeg (nI (Nto n w))) 19 (nI w).toNatClampNeg (nI (Nat_ n w))) := by rw [← hu1]; exact ((xS.rf.a rfl).a rfl).a rfl
          exact ((hS.y.mono rfl (by decide)).tr (S3.mono rfl (by decide))).tr (X4.y.mono rfl (by decide))
        · rw [cw]
          rw [← hu1]
          exact N3.wk w (Nto n w) (Nat_ n w) (EAw T n [] 99 w (Nto n w))
        · have X4 : xS [] [18, 19, 20] s3 (sI (sI u1 18 (nI w).toNatClampNeg (nI (Nto n w))) 19 (nI w).toNatClampNeg (nI (Nat_ n w))) := by rw [← hu1]; exact ((xS.rf.a rfl).a rfl).a rfl
          exact K3.ys X4.y hz3 rfl rfl
      · have q : ¬ gI s2 58 (gI s2 19 (nI w).toNatClampNeg).toNatClampNeg ≤ nI 9999 := q
        rw [gg s2 N2 hM, nI_leI (by omega) (by omega)] at q
        exact no _ hS (fun e => by unfold okSend at e; rw [cw] at e; exact q e.2.2)
end SE_
