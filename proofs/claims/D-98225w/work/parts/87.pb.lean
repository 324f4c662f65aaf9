section PB_
variable (G : CX) (g : GX) (l : Launch) (d : Nat) (σ : AS)
/-- by how many streets who is so broad passes in an hour -/
def pasN (T : Twn) (n : Nws) (b h : Nat) : Nat := countF (fun s => passF T n s b h) (Tns T) 0
theorem c_passedBy (T : Twn) (n : Nws) (h : TN T n σ) (x y : Int32) (w hr : Nat) (hx : x = nI w) (hy : y = nI hr) (hw : w < Tnw T) (h1 : hr ≤ 900000) :
    MC G g l (d+8) mX6_passedBy [tM, iv x, iv y] σ (fun r t => r = some (jv (lN (pasN T n (Tbr T w) hr))) ∧ mS [43] [228, 229] σ t) := by
  subst hx; subst hy
  have h12 := h.1.1
  have hbr := (h.1.2.2 w hw).1
  refine MC1 tX6_passedBy [4, 17] rfl okX6_passedBy rfl rfl rfl rfl (fun P hP => ?_)
  have key : ∀ (m s c : Nat) (τ : AS), s + m = Tns T → c ≤ s → mS [43] [228, 229] σ τ → pasN T n (Tbr T w) hr = c + countF (fun s => passF T n s (Tbr T w) hr) m s → P 4 [some tM, some (iv (nI w)), some (iv (nI hr)), some (iv (nI c)), some (iv (nI s))] [] τ := by
    intro m
    induction m with
    | zero =>
      intro s c τ hs hc hS he
      refine hP _ _ _ _ ?_
      refine mcall (c_streetMany G g l (d+6) τ) (fun r τ h9 => ?_)
      obtain ⟨rfl, rfl⟩ := h9
      rw [(h.2.2.1.keep hS rfl).2.1]
      refine And.intro (fun _ => ⟨?_, hS⟩) (fun q => absurd (nI_le (by omega) (by omega)) q)
      have he : pasN T n (Tbr T w) hr = c := he
      rw [he]
      show some (jv (nI c).toInt64) = _
      rw [nI_l (by omega)]
    | succ m ih =>
      intro s c τ hs hc hS he
      have hTN := h.keep hS rfl rfl
      refine hP _ _ _ _ ?_
      refine mcall (c_streetMany G g l (d+6) τ) (fun r τ h9 => ?_)
      obtain ⟨rfl, rfl⟩ := h9
      rw [hTN.2.2.1.2.1]
      refine And.intro (fun q => absurd q (nI_ge (by omega) (by omega))) (fun _ => ?_)
      refine mcall (c_broadOf G g l (d+6) τ T hTN.2.2.1 _ w rfl hw h.1) (fun r τ h9 => ?_)
      obtain ⟨rfl, rfl⟩ := h9
      refine mcall (c_isPassed G g l d τ T n hTN _ _ _ s (Tbr T w) hr rfl rfl rfl (by omega) (by omega) h1) (fun r s1 h9 => ?_)
      obtain ⟨rfl, S1⟩ := h9
      have next : ∀ (v : Int32) (c' : Nat), v = nI c' → c' ≤ s + 1 → pasN T n (Tbr T w) hr = c' + countF (fun s => passF T n s (Tbr T w) hr) m (s+1) → P 17 [some tM, some (iv (nI w)), some (iv (nI hr)), some (iv v), some (iv (nI s))] [] s1 := by
        intro v c' hv h2 h3
        subst hv
        refine hP _ _ _ _ ?_
        show P 4 [some tM, some (iv (nI w)), some (iv (nI hr)), some (iv (nI c')), some (iv (nI s + nI 1))] [] s1
        rw [nI_add]
        exact ih (s+1) c' s1 (by omega) h2 (hS.tr S1) h3
      cases hp : passF T n s (Tbr T w) hr with
      | true =>
        refine And.intro (fun q => absurd q (by decide)) (fun _ => next (nI c + nI 1) (c+1) (nI_add _ _) (by omega) ?_)
        rw [he]
        conv => lhs; unfold countF
        rw [hp]
        simp
        omega
      | false =>
        refine And.intro (fun _ => next _ c rfl (by omega) ?_) (fun q => absurd rfl q)
        rw [he]
        conv => lhs; unfold countF
        rw [hp]
        simp
  refine hP _ _ _ _ ?_
  exact key (Tns T) 0 0 σ (by omega) (Nat.le_refl _) mS.rf (by unfold pasN; omega)
end PB_
