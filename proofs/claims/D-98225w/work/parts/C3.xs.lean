section XS_
variable (G : CX) (g : GX) (l : Launch) (d : Nat) (σ : AS)
theorem x_status (x : Int32) : MC G g l (d+2) mX0_status [tX, iv x] σ (fun r t => r = some (iv (if btw x 0 5 = true then gI σ 15 x.toNatClampNeg else - nI 1)) ∧ t = σ) := by
  refine MC0 tX0_status rfl okX0_status rfl rfl rfl rfl (fun P => ?_)
  refine mcall (x_is G g l d σ x (nI 0) (nI 5)) (fun r s1 h9 => ?_)
  obtain ⟨rfl, e9⟩ := h9
  subst e9
  have eb : decide (nI 0 ≤ x ∧ x ≤ nI 5) = btw x 0 5 := by
    unfold btw
    apply decide_eq_decide.mpr
    rw [Int32.le_iff_toInt_le, Int32.le_iff_toInt_le, nI_toInt (by omega), nI_toInt (by omega)]
  rw [eb]
  cases hb : btw x 0 5 with
  | true =>
    obtain ⟨k, -, hk, rfl⟩ := btw_of hb (by omega)
    refine And.intro (fun q => absurd q (by decide)) (fun _ => And.intro (show vp_in (nI k) 6 from vinN (by omega) (by decide)) ⟨?_, rfl⟩)
    rw [if_pos rfl]
  | false => exact And.intro (fun _ => ⟨by rw [if_neg (by decide)], rfl⟩) (fun q => absurd rfl q)
end XS_
