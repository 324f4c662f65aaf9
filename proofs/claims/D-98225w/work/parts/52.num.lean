/-! numbers -/
def zL (z : Int) : Int64 := Int64.ofInt z
theorem zL_toInt {z : Int} (h1 : -4611686018427387904 ≤ z) (h2 : z ≤ 4611686018427387904) : (zL z).toInt = z := Int64.toInt_ofInt_of_le (by omega) (by omega)
theorem zL_add (a b : Int) : zL a + zL b = zL (a + b) := (Int64.ofInt_add a b).symm
theorem zL_sub (a b : Int) : zL a - zL b = zL (a - b) := (Int64.ofInt_sub a b).symm
theorem zL_mul (a b : Int) : zL a * zL b = zL (a * b) := (Int64.ofInt_mul a b).symm
theorem zL_neg (a : Int) : - zL a = zL (- a) := (Int64.ofInt_neg a).symm
def inZ (z : Int) : Prop := -4611686018427387904 ≤ z ∧ z ≤ 4611686018427387904
theorem zL_lt {a b : Int} (ha : inZ a) (hb : inZ b) : zL a < zL b ↔ a < b := by
  rw [Int64.lt_iff_toInt_lt, zL_toInt ha.1 ha.2, zL_toInt hb.1 hb.2]
theorem zL_le {a b : Int} (ha : inZ a) (hb : inZ b) : zL a ≤ zL b ↔ a ≤ b := by
  rw [Int64.le_iff_toInt_le, zL_toInt ha.1 ha.2, zL_toInt hb.1 hb.2]
theorem zL_eq {a b : Int} (ha : inZ a) (hb : inZ b) : zL a = zL b ↔ a = b := by
  constructor
  · intro h
    have := congrArg Int64.toInt h
    rwa [zL_toInt ha.1 ha.2, zL_toInt hb.1 hb.2] at this
  · intro h; rw [h]
theorem lN_zL (n : Nat) : lN n = zL (n : Int) := rfl
theorem nI_zL {n : Nat} (h : n < 2147483648) : (nI n).toInt64 = zL (n : Int) := by rw [nI_l h]; rfl
theorem zL_div {a b : Int} (ha : inZ a) (hb : inZ b) : zL a / zL b = zL (a.tdiv b) := by
  apply Int64.toInt_inj.mp
  have hq : inZ (a.tdiv b) := by
    have := Int.natAbs_tdiv_le_natAbs a b
    obtain ⟨h1, h2⟩ := ha
    constructor <;> omega
  rw [zL_toInt hq.1 hq.2, Int64.toInt_div, zL_toInt ha.1 ha.2, zL_toInt hb.1 hb.2]
  have := Int.natAbs_tdiv_le_natAbs a b
  obtain ⟨h1, h2⟩ := ha
  rw [Int.bmod_eq_of_le (by omega) (by omega)]
def clipZ (v : Int) : Int := if v > 1000000 then 1000000 else if v < -1000000 then -1000000 else v
def floorZ (a b : Int) : Int := if b = 0 then 0 else a.fdiv b
theorem clipZ_in (v : Int) : -1000000 ≤ clipZ v ∧ clipZ v ≤ 1000000 := by
  unfold clipZ
  split
  · omega
  · split <;> omega
theorem floor_eq {a b : Int} (hb : b ≠ 0) : a.fdiv b = if a - a.tdiv b * b ≠ 0 ∧ (decide (a < 0) ≠ decide (b < 0)) then a.tdiv b - 1 else a.tdiv b := by
  have hm : a - a.tdiv b * b = a.tmod b := by
    have := Int.mul_tdiv_add_tmod a b
    rw [Int.mul_comm] at this
    omega
  rw [hm, Int.fdiv_eq_tdiv]
  by_cases hd : b ∣ a
  · have h0 : a.tmod b = 0 := Int.tmod_eq_zero_of_dvd hd
    rw [if_pos hd, if_neg (fun q => q.1 h0)]
    omega
  · have h0 : a.tmod b ≠ 0 := fun q => hd (Int.dvd_of_tmod_eq_zero q)
    rw [if_neg hd]
    by_cases h1 : 0 ≤ a
    · by_cases h2 : 0 ≤ b
      · rw [if_pos h1, if_pos h2, if_neg (fun q => q.2 (by rw [decide_eq_false (by omega), decide_eq_false (by omega)]))]
        omega
      · rw [if_pos h1, if_neg h2, if_pos ⟨h0, by rw [decide_eq_false (by omega), decide_eq_true (by omega)]; decide⟩]
    · by_cases h2 : 0 ≤ b
      · rw [if_neg h1, if_pos h2, if_pos ⟨h0, by rw [decide_eq_true (by omega), decide_eq_false (by omega)]; decide⟩, Int.sign_eq_one_of_pos (by omega)]
      · rw [Int.sign_eq_neg_one_of_neg (by omega : b < 0), if_neg h1, if_neg h2, if_neg (fun q => q.2 (by rw [decide_eq_true (by omega), decide_eq_true (by omega)]))]
        omega
def opZ (op : Nat) (a b : Int) : Int := match op with
  | 1 => clipZ (a + b)
  | 2 => clipZ (a - b)
  | 3 => clipZ (a * b)
  | 4 => floorZ a b
  | 5 => if a < b then a else b
  | _ => if b < a then a else b
def mid (z : Int) : Prop := -1000000 ≤ z ∧ z ≤ 1000000
