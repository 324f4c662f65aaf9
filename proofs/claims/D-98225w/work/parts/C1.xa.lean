section XA_
variable (G : CX) (g : GX) (l : Launch) (d : Nat) (σ : AS)
theorem x_is (a b c : Int32) : MC G g l (d+1) mX0_is [iv a, iv b, iv c] σ (fun r s => r = some (iv (bI (decide (b ≤ a ∧ a ≤ c)))) ∧ s = σ) := by
  refine MC0 tX0_is rfl okX0_is rfl rfl rfl rfl (fun P => ?_)
  refine And.intro (fun h => ?_) (fun h => And.intro (fun h2 => ?_) (fun h2 => ?_))
  · have h9 : a < b := h
    exact ⟨nar0, by rw [decide_eq_false (fun q => Int32.not_le.mpr h9 q.1)]; rfl, rfl⟩
  · have h9 : c < a := h2
    exact ⟨nar0, by rw [decide_eq_false (fun q => Int32.not_le.mpr h9 q.2)]; rfl, rfl⟩
  · have h8 : ¬ a < b := h
    have h9 : ¬ c < a := h2
    exact ⟨nar1, by rw [decide_eq_true ⟨Int32.not_lt.mp h8, Int32.not_lt.mp h9⟩]; rfl, rfl⟩
theorem x_refuses (x : Int32) (k : Nat) (hx : x = nI k) (hk : k < 6) : MC G g l (d+1) mX0_refuses [tX, iv x] σ (fun r t => r = some (iv (- nI 1)) ∧ t = sI σ 15 k (gI σ 15 k + nI 1)) := by
  subst hx
  refine MC0 tX0_refuses rfl okX0_refuses rfl rfl rfl rfl (fun P => ?_)
  refine And.intro (show vp_in (nI k) 6 from vinN (by omega) (by decide)) (And.intro (show vp_in (nI k) 6 from vinN (by omega) (by decide)) ⟨rfl, ?_⟩)
  show sI σ 15 (nI k).toNatClampNeg (gI σ 15 (nI k).toNatClampNeg + nI 1) = _
  rw [clN (by omega)]
theorem x_fault (k p : Int32) (h1 : gI σ 0 3 = k) (h2 : gI σ 0 4 = p) (x : Int32) : MC G g l (d+1) mX0_fault [tX, iv x] σ (fun r t => r = some (iv (if x = nI 0 then k else if x = nI 1 then p else - nI 1)) ∧ t = σ) := by
  refine MC0 tX0_fault rfl okX0_fault rfl rfl rfl rfl (fun P => ?_)
  refine And.intro (fun h => And.intro (fun h3 => ?_) (fun h3 => ?_)) (fun h => ?_)
  · exact ⟨by rw [if_neg h, if_neg h3], rfl⟩
  · exact ⟨by rw [if_neg h, if_pos h3, ← h2], rfl⟩
  · exact ⟨by rw [if_pos h, ← h1], rfl⟩
end XA_
