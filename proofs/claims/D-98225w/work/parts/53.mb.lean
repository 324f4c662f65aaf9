section MB
variable (G : CX) (g : GX) (l : Launch) (d : Nat) (σ : AS)
theorem c_clip (v : Int64) (z : Int) (hv : v = zL z) (h : inZ z) : MC G g l (d+1) mX6_clip [jv v] σ (fun r s => r = some (jv (zL (clipZ z))) ∧ s = σ) := by
  subst hv
  have hm : inZ 1000000 := ⟨by omega, by omega⟩
  have hm2 : inZ (-1000000) := ⟨by omega, by omega⟩
  refine MC0 tX6_clip rfl okX6_clip rfl rfl rfl rfl (fun P => ?_)
  refine And.intro (fun h1 => And.intro (fun h2 => ?_) (fun h2 => ?_)) (fun h1 => ?_)
  · have h1 := (zL_le h hm).mp ((lg_cmp_le _ _).mp h1)
    have h2 : -1000000 ≤ z := (zL_le hm2 h).mp ((lg_cmp_ge _ _).mp h2)
    exact ⟨by rw [show clipZ z = z by unfold clipZ; rw [if_neg (by omega), if_neg (by omega)]], rfl⟩
  · have h1 := (zL_le h hm).mp ((lg_cmp_le _ _).mp h1)
    have h2 : ¬ -1000000 ≤ z := fun q => h2 ((lg_cmp_ge _ _).mpr ((zL_le hm2 h).mpr q))
    exact ⟨by rw [show clipZ z = -1000000 by unfold clipZ; rw [if_neg (by omega), if_pos (by omega)]]; rfl, rfl⟩
  · have h1 : ¬ z ≤ 1000000 := fun q => h1 ((lg_cmp_le _ _).mpr ((zL_le h hm).mpr q))
    exact ⟨by rw [show clipZ z = 1000000 by unfold clipZ; rw [if_pos (by omega)]]; rfl, rfl⟩
theorem c_puts (z : Int64) (n : Nat) (hn : gI σ 200 43 = nI n) (hn2 : n < 1700) : MC G g l (d+1) mX6_puts [tM, jv z] σ (fun r s => r = none ∧ gI s 200 43 = nI (n+1) ∧ gL s 228 n = z ∧ (∀ k, k ≠ n → gL s 228 k = gL σ 228 k) ∧ mS [43] [228] σ s) := by
  refine MC0 tX6_puts rfl okX6_puts rfl rfl rfl rfl (fun P => ?_)
  refine And.intro ?_ ?_
  · show vp_in (gI σ 200 43) 1700
    rw [hn]; exact vinN hn2 (by decide)
  · show none = none ∧ _
    have e : (gI σ 200 43).toNatClampNeg = n := by rw [hn, clN (by omega)]
    refine ⟨rfl, ?_, ?_, fun k hk => ?_, (mS.rf.al rfl).f rfl⟩
    · show gI σ 200 43 + nI 1 = _
      rw [hn, nI_add]
    · rw [gL_sI, gL_sL, e, if_pos ⟨rfl, rfl⟩]
    · rw [gL_sI, gL_sL, e, if_neg (fun q => hk q.2)]
theorem c_floor (v w : Int64) (a b : Int) (hv : v = zL a) (hw : w = zL b) (ha : mid a) (hb : mid b) : MC G g l (d+1) mX6_floor [jv v, jv w] σ (fun r s => r = some (jv (zL (floorZ a b))) ∧ s = σ) := by
  subst hv; subst hw
  have za : inZ a := ⟨by unfold mid at ha; omega, by unfold mid at ha; omega⟩
  have zb : inZ b := ⟨by unfold mid at hb; omega, by unfold mid at hb; omega⟩
  have z0 : inZ 0 := ⟨by omega, by omega⟩
  refine MC0 tX6_floor rfl okX6_floor rfl rfl rfl rfl (fun P => ?_)
  refine And.intro (fun h1 => ?_) (fun h1 => ?_)
  · have hb0 : b ≠ 0 := fun q => h1 ((lg_cmp_eq _ _).mpr ((zL_eq zb z0).mpr q))
    have hz : ¬ zL b = 0 := fun q => hb0 ((zL_eq zb z0).mp q)
    have hq : zL a - zL a / zL b * zL b = zL (a - a.tdiv b * b) := by rw [zL_div za zb, zL_mul, zL_sub]
    have hr : inZ (a - a.tdiv b * b) := by
      have e : a - a.tdiv b * b = a.tmod b := by
        have := Int.mul_tdiv_add_tmod a b
        rw [Int.mul_comm] at this
        omega
      rw [e]
      have := Int.natAbs_tmod a b
      have := Nat.mod_le a.natAbs b.natAbs
      unfold mid at ha
      constructor <;> omega
    have fin0 : ∀ v : Int, v = a.fdiv b → (fun (r : Option AV) (s : AS) => r = some (jv (zL (floorZ a b))) ∧ s = σ) (some (jv (zL v))) σ := fun v hv => ⟨by rw [hv]; unfold floorZ; rw [if_neg hb0], rfl⟩
    refine And.intro hz (And.intro hz (And.intro (fun h2 => ?_) (fun h2 => ?_)))
    · have h2 := (lg_cmp_eq _ _).mp h2
      rw [hq] at h2
      have h2 := (zL_eq hr z0).mp h2
      have := fin0 (a.tdiv b) (by rw [floor_eq hb0, if_neg (fun q => q.1 h2)])
      rw [← zL_div za zb] at this
      exact this
    · have h2 : a - a.tdiv b * b ≠ 0 := fun q => h2 ((lg_cmp_eq _ _).mpr (by rw [hq, q]; rfl))
      have same : decide (a < 0) = decide (b < 0) → (fun (r : Option AV) (s : AS) => r = some (jv (zL (floorZ a b))) ∧ s = σ) (some (jv (zL a / zL b))) σ := by
        intro e
        have := fin0 (a.tdiv b) (by rw [floor_eq hb0, if_neg (fun q => q.2 e)])
        rw [← zL_div za zb] at this
        exact this
      have diff : decide (a < 0) ≠ decide (b < 0) → (fun (r : Option AV) (s : AS) => r = some (jv (zL (floorZ a b))) ∧ s = σ) (some (jv (zL a / zL b - lN 1))) σ := by
        intro e
        have := fin0 (a.tdiv b - 1) (by rw [floor_eq hb0, if_pos ⟨h2, e⟩])
        rw [← zL_sub, ← zL_div za zb] at this
        exact this
      have ga : 0 ≤ lg_cmp (zL a) (lN 0) ↔ 0 ≤ a := (lg_cmp_ge _ _).trans (zL_le z0 za)
      have gb : 0 ≤ lg_cmp (zL b) (lN 0) ↔ 0 ≤ b := (lg_cmp_ge _ _).trans (zL_le z0 zb)
      refine And.intro (fun h3 => And.intro (fun h4 => And.intro (fun h5 => ?_) (fun h5 => ?_)) (fun h4 => And.intro (fun h5 => ?_) (fun h5 => ?_))) (fun h3 => And.intro (fun h4 => And.intro (fun h5 => ?_) (fun h5 => ?_)) (fun h4 => And.intro (fun h5 => ?_) (fun h5 => ?_)))
      · have h3 := ga.mp h3
        have h4 := gb.mp h4
        exact same (by rw [decide_eq_false (by omega), decide_eq_false (by omega)])
      · exact absurd rfl h5
      · exact absurd h5 (by decide)
      · have h3 := ga.mp h3
        have h4 : ¬ 0 ≤ b := fun q => h4 (gb.mpr q)
        exact diff (by rw [decide_eq_false (by omega), decide_eq_true (by omega)]; decide)
      · exact absurd h5 (by decide)
      · have h3 : ¬ 0 ≤ a := fun q => h3 (ga.mpr q)
        have h4 := gb.mp h4
        exact diff (by rw [decide_eq_true (by omega), decide_eq_false (by omega)]; decide)
      · have h3 : ¬ 0 ≤ a := fun q => h3 (ga.mpr q)
        have h4 : ¬ 0 ≤ b := fun q => h4 (gb.mpr q)
        exact same (by rw [decide_eq_true (by omega), decide_eq_true (by omega)])
      · exact absurd rfl h5
  · have hb0 : b = 0 := (zL_eq zb z0).mp ((lg_cmp_eq _ _).mp h1)
    exact ⟨by rw [hb0]; rfl, rfl⟩
end MB
