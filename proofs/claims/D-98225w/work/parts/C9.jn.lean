/-! numbers of the JDK -/
theorem xorL_neg (x y : Int64) : decide ((x ^^^ y).toInt < 0) = (decide (x.toInt < 0) ^^ decide (y.toInt < 0)) := by
  have h : ∀ z : Int64, decide (z.toInt < 0) = z.toBitVec.msb := fun z => (BitVec.msb_eq_toInt (x := z.toBitVec)).symm
  rw [h, h, h, Int64.toBitVec_xor, BitVec.msb_xor]
theorem xorI_neg (x y : Int32) : decide ((x ^^^ y).toInt < 0) = (decide (x.toInt < 0) ^^ decide (y.toInt < 0)) := by
  have h : ∀ z : Int32, decide (z.toInt < 0) = z.toBitVec.msb := fun z => (BitVec.msb_eq_toInt (x := z.toBitVec)).symm
  rw [h, h, h, Int32.toBitVec_xor, BitVec.msb_xor]
section JN_
variable (G : CX) (g : GX) (l : Launch) (d : Nat) (σ : AS)
theorem j_minL (v w : Int64) (a b : Int) (hv : v = zL a) (hw : w = zL b) (ha : inZ a) (hb : inZ b) : MC G g l (d+1) mJ12_min_2 [jv v, jv w] σ (fun r t => r = some (jv (zL (if b < a then b else a))) ∧ t = σ) := by
  subst hv; subst hw
  refine MC0F tJ12_min_2 rfl okJ12_min_2 rfl pf_min2 rfl rfl (fun P => And.intro (fun h => ?_) (fun h => ?_))
  · have h9 : b < a := (zL_lt hb ha).mp ((lg_cmp_gt _ _).mp h)
    exact ⟨by rw [if_pos h9], rfl⟩
  · have h9 : ¬ b < a := fun q => h ((lg_cmp_gt _ _).mpr ((zL_lt hb ha).mpr q))
    exact ⟨by rw [if_neg h9], rfl⟩
theorem j_maxL (v w : Int64) (a b : Int) (hv : v = zL a) (hw : w = zL b) (ha : inZ a) (hb : inZ b) : MC G g l (d+1) mJ12_max_2 [jv v, jv w] σ (fun r t => r = some (jv (zL (if a < b then b else a))) ∧ t = σ) := by
  subst hv; subst hw
  refine MC0F tJ12_max_2 rfl okJ12_max_2 rfl pf_max2 rfl rfl (fun P => And.intro (fun h => ?_) (fun h => ?_))
  · have h9 : a < b := (zL_lt ha hb).mp ((lg_cmp_lt _ _).mp h)
    exact ⟨by rw [if_pos h9], rfl⟩
  · have h9 : ¬ a < b := fun q => h ((lg_cmp_lt _ _).mpr ((zL_lt ha hb).mpr q))
    exact ⟨by rw [if_neg h9], rfl⟩
theorem j_maxI (x y : Int32) (a b : Nat) (hx : x = nI a) (hy : y = nI b) (ha : a < 2147483648) (hb : b < 2147483648) : MC G g l (d+1) mJ12_max [iv x, iv y] σ (fun r t => r = some (iv (nI (max a b))) ∧ t = σ) := by
  subst hx; subst hy
  refine MC0F tJ12_max rfl okJ12_max rfl pf_max rfl rfl (fun P => And.intro (fun h => ?_) (fun h => ?_))
  · have h9 : nI a < nI b := h
    rw [nI_ltI ha hb] at h9
    exact ⟨by rw [Nat.max_eq_right (by omega)], rfl⟩
  · have h9 : ¬ nI a < nI b := h
    rw [nI_ltI ha hb] at h9
    exact ⟨by rw [Nat.max_eq_left (by omega)], rfl⟩
theorem j_minI (x y : Int32) (a b : Nat) (hx : x = nI a) (hy : y = nI b) (ha : a < 2147483648) (hb : b < 2147483648) : MC G g l (d+1) mJ12_min [iv x, iv y] σ (fun r t => r = some (iv (nI (min a b))) ∧ t = σ) := by
  subst hx; subst hy
  refine MC0F tJ12_min rfl okJ12_min rfl pf_min rfl rfl (fun P => And.intro (fun h => ?_) (fun h => ?_))
  · have h9 : nI b < nI a := h
    rw [nI_ltI hb ha] at h9
    exact ⟨by rw [Nat.min_eq_right (by omega)], rfl⟩
  · have h9 : ¬ nI b < nI a := h
    rw [nI_ltI hb ha] at h9
    exact ⟨by rw [Nat.min_eq_left (by omega)], rfl⟩
theorem j_floorDiv (v w : Int64) (a b : Int) (hv : v = zL a) (hw : w = zL b) (ha : mid a) (hb : mid b) (h0 : b ≠ 0) : MC G g l (d+1) mJ12_floorDiv [jv v, jv w] σ (fun r t => r = some (jv (zL (a.fdiv b))) ∧ t = σ) := by
  subst hv; subst hw
  have za := mid_in ha
  have zb := mid_in hb
  have z0 : inZ 0 := ⟨by omega, by omega⟩
  have hz : ¬ zL b = 0 := fun q => h0 ((zL_eq zb z0).mp q)
  have hq : zL a / zL b = zL (a.tdiv b) := zL_div za zb
  have hx : (nI 0 ≤ lg_cmp (zL a ^^^ zL b) (lN 0)) ↔ decide (a < 0) = decide (b < 0) := by
    have h1 := lg_cmp_ge (zL a ^^^ zL b) (lN 0)
    have h2 := xorL_neg (zL a) (zL b)
    rw [zL_toInt za.1 za.2, zL_toInt zb.1 zb.2] at h2
    refine h1.trans ?_
    rw [Int64.le_iff_toInt_le, show (lN 0).toInt = 0 from rfl]
    by_cases q1 : a < 0 <;> by_cases q2 : b < 0 <;> by_cases q3 : (zL a ^^^ zL b).toInt < 0 <;> simp [q1, q2, q3] at h2 ⊢ <;> omega
  have hm : inZ (a.tdiv b * b) := by
    have := Int.mul_tdiv_add_tmod a b
    rw [Int.mul_comm] at this
    have h3 := Int.natAbs_tmod a b
    have h4 := Nat.mod_le a.natAbs b.natAbs
    unfold mid at ha
    constructor <;> omega
  have he : (lg_cmp (zL a / zL b * zL b) (zL a) = nI 0) ↔ a - a.tdiv b * b = 0 := by
    have h1 := lg_cmp_eq (zL a / zL b * zL b) (zL a)
    refine h1.trans ?_
    rw [hq, zL_mul, zL_eq hm za]
    omega
  have hf := floor_eq (a := a) h0
  refine MC0F tJ12_floorDiv rfl okJ12_floorDiv rfl pf_floorDiv rfl rfl (fun P => And.intro hz (And.intro (fun h1 => ?_) (fun h1 => And.intro (fun h2 => ?_) (fun h2 => ?_))))
  · have h1 := hx.mp h1
    rw [if_neg (fun q => q.2 h1)] at hf
    exact ⟨by rw [hf, ← hq], rfl⟩
  · have h2 := he.mp h2
    rw [if_neg (fun q => q.1 h2)] at hf
    exact ⟨by rw [hf, ← hq], rfl⟩
  · have h1 : ¬ decide (a < 0) = decide (b < 0) := fun q => h1 (hx.mpr q)
    have h2 : ¬ a - a.tdiv b * b = 0 := fun q => h2 (he.mpr q)
    rw [if_pos ⟨h2, h1⟩] at hf
    refine ⟨?_, rfl⟩
    rw [hf, ← zL_sub, ← hq]
    rfl
theorem x_held (v : Int64) (z : Int) (hv : v = zL z) (h : inZ z) : MC G g l (d+2) mX0_held [jv v] σ (fun r t => r = some (jv (zL (clipZ z))) ∧ t = σ) := by
  subst hv
  have hm : inZ 1000000 := ⟨by omega, by omega⟩
  have hm2 : inZ (-1000000) := ⟨by omega, by omega⟩
  refine MC0 tX0_held rfl okX0_held rfl rfl rfl rfl (fun P => ?_)
  refine mcall (j_minL G g l d σ _ _ 1000000 z rfl rfl hm h) (fun r s1 h9 => ?_)
  obtain ⟨rfl, e9⟩ := h9
  subst e9
  refine mcall (j_maxL G g l d s1 _ _ (-1000000) (if z < 1000000 then z else 1000000) rfl rfl hm2 (by split; exact h; exact hm)) (fun r s2 h9 => ?_)
  obtain ⟨rfl, e9⟩ := h9
  refine ⟨?_, e9⟩
  have e : (if -1000000 < (if z < 1000000 then z else 1000000) then (if z < 1000000 then z else 1000000) else -1000000) = clipZ z := by
    unfold clipZ
    split <;> split <;> split <;> omega
  rw [e]
end JN_
