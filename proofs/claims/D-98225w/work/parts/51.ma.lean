section MA
variable (G : CX) (g : GX) (l : Launch) (d : Nat) (σ : AS)
theorem c_isIn (v a b : Int64) : MC G g l (d+1) mX6_isIn [jv v, jv a, jv b] σ (fun r s => r = some (iv (bI (decide (a ≤ v ∧ v ≤ b)))) ∧ s = σ) := by
  refine MC0 tX6_isIn rfl okX6_isIn rfl rfl rfl rfl (fun P => ?_)
  refine And.intro (fun h => ?_) (fun h => ?_)
  · have h := (lg_cmp_lt _ _).mp h
    exact ⟨nar0, by rw [decide_eq_false (fun q => Int64.not_le.mpr h q.1)]; rfl, rfl⟩
  · have h := Int64.not_lt.mp (fun q => h ((lg_cmp_lt _ _).mpr q))
    refine And.intro (fun h2 => ?_) (fun h2 => ?_)
    · have h2 := (lg_cmp_gt _ _).mp h2
      exact ⟨nar0, by rw [decide_eq_false (fun q => Int64.not_le.mpr h2 q.2)]; rfl, rfl⟩
    · have h2 := Int64.not_lt.mp (fun q => h2 ((lg_cmp_gt _ _).mpr q))
      exact ⟨nar1, by rw [decide_eq_true ⟨h, h2⟩]; rfl, rfl⟩
theorem c_isLetter (c : Int32) : MC G g l (d+1) mX6_isLetter [iv c] σ (fun r s => r = some (iv (bI (decide (nI 97 ≤ c ∧ c ≤ nI 122)))) ∧ s = σ) := by
  refine MC0 tX6_isLetter rfl okX6_isLetter rfl rfl rfl rfl (fun P => ?_)
  refine And.intro (fun h => ?_) (fun h => And.intro (fun h2 => ?_) (fun h2 => ?_))
  · exact ⟨nar0, by rw [decide_eq_false (fun q => Int32.not_le.mpr h q.1)]; rfl, rfl⟩
  · exact ⟨nar0, by rw [decide_eq_false (fun q => Int32.not_le.mpr h2 q.2)]; rfl, rfl⟩
  · exact ⟨nar1, by rw [decide_eq_true ⟨Int32.not_lt.mp h, Int32.not_lt.mp h2⟩]; rfl, rfl⟩
theorem c_isDigit (c : Int32) : MC G g l (d+1) mX6_isDigit [iv c] σ (fun r s => r = some (iv (bI (decide (nI 48 ≤ c ∧ c ≤ nI 57)))) ∧ s = σ) := by
  refine MC0 tX6_isDigit rfl okX6_isDigit rfl rfl rfl rfl (fun P => ?_)
  refine And.intro (fun h => ?_) (fun h => And.intro (fun h2 => ?_) (fun h2 => ?_))
  · exact ⟨nar0, by rw [decide_eq_false (fun q => Int32.not_le.mpr h q.1)]; rfl, rfl⟩
  · exact ⟨nar0, by rw [decide_eq_false (fun q => Int32.not_le.mpr h2 q.2)]; rfl, rfl⟩
  · exact ⟨nar1, by rw [decide_eq_true ⟨Int32.not_lt.mp h, Int32.not_lt.mp h2⟩]; rfl, rfl⟩
theorem c_placeMany : MC G g l (d+1) mX6_placeMany [tM] σ (fun r s => r = some (iv (gI σ 220 3)) ∧ s = σ) :=
  MC0 tX6_placeMany rfl okX6_placeMany rfl rfl rfl rfl (fun P => ⟨vin 3 6 rfl rfl, rfl, rfl⟩)
theorem c_streetMany : MC G g l (d+1) mX6_streetMany [tM] σ (fun r s => r = some (iv (gI σ 220 4)) ∧ s = σ) :=
  MC0 tX6_streetMany rfl okX6_streetMany rfl rfl rfl rfl (fun P => ⟨vin 4 6 rfl rfl, rfl, rfl⟩)
theorem c_walkerMany : MC G g l (d+1) mX6_walkerMany [tM] σ (fun r s => r = some (iv (gI σ 220 5)) ∧ s = σ) :=
  MC0 tX6_walkerMany rfl okX6_walkerMany rfl rfl rfl rfl (fun P => ⟨vin 5 6 rfl rfl, rfl, rfl⟩)
theorem c_isPlace (p : Int32) : MC G g l (d+2) mX6_isPlace [tM, iv p] σ (fun r s => r = some (iv (bI (decide ((lN 0) ≤ p.toInt64 ∧ p.toInt64 ≤ (gI σ 220 3 - nI 1).toInt64)))) ∧ s = σ) := by
  refine MC0 tX6_isPlace rfl okX6_isPlace rfl rfl rfl rfl (fun P => ?_)
  refine mcall (c_placeMany G g l d σ) (fun r s' h => ?_)
  obtain ⟨rfl, rfl⟩ := h
  refine mcall (c_isIn G g l d _ _ _ _) (fun r s' h => ?_)
  obtain ⟨rfl, rfl⟩ := h
  exact ⟨nar_bI _, rfl, rfl⟩
end MA
