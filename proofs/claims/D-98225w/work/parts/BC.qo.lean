/-- what is told of a number: width, tide, passes -/
def ofQ (T : Twn) (n : Nws) (k : Nat) (z : Int) (i : Nat) : Int := if k = 0 then (if 0 ≤ z ∧ z < (Tns T : Int) then ((wid T z.toNat (Nsh n z.toNat) i : Nat) : Int) else 0)
  else if k = 1 then (if 0 ≤ z ∧ z < (Tns T : Int) then (((i + Nsh n z.toNat) % Trd T z.toNat : Nat) : Int) else 0)
  else (if 0 ≤ z ∧ z < (Tnw T : Int) then ((pasN T n (Tbr T z.toNat) i : Nat) : Int) else 0)
theorem isInZ {z : Int} {n : Nat} (hz : mid z) (hn : n < 1000) : decide (lN 0 ≤ zL z ∧ zL z ≤ (nI n - nI 1).toInt64) = decide (0 ≤ z ∧ z < (n : Int)) := by
  have e : (nI n - nI 1).toInt = (n : Int) - 1 := by
    have := pk_sub_toInt (a := n) (b := 1) (by omega) (by omega)
    simpa using this
  have e2 : (lN 0).toInt = 0 := rfl
  unfold mid at hz
  apply decide_eq_decide.mpr
  rw [Int64.le_iff_toInt_le, Int64.le_iff_toInt_le, Int32.toInt_toInt64, e, e2, zL_toInt (by omega) (by omega)]
  omega
theorem zL_i {m : Nat} (h : m < 1000000) : (zL (m : Int)).toInt32 = nI m := by
  apply Int32.toInt_inj.mp
  rw [nI_toInt (by omega), Int64.toInt_toInt32, zL_toInt (by omega) (by omega)]
  apply Int.bmod_eq_of_le <;> omega
section QO_
variable (G : CX) (g : GX) (l : Launch) (d : Nat) (σ : AS)
set_option maxHeartbeats 1000000 in
theorem c_qOf (T : Twn) (n : Nws) (h : TN T n σ) (x y : Int32) (v : Int64) (k i : Nat) (z : Int) (hx : x = nI k) (hv : v = zL z) (hz : mid z) (hy : y = nI i) (hk : k < 3) (hi : i ≤ 900000) :
    MC G g l (d+9) mX6_qOf [tM, iv x, jv v, iv y] σ (fun r t => r = some (jv (zL (ofQ T n k z i))) ∧ mS [43] [228, 229] σ t) := by
  subst hx; subst hy; subst hv
  obtain ⟨t1, t2, t3⟩ := h.1.1
  have e4 : gI σ 220 4 = nI (Tns T) := h.2.2.1.2.1
  have e5 : gI σ 220 5 = nI (Tnw T) := h.2.2.1.2.2.1
  generalize ho : ofQ T n k z i = q
  refine MC1 tX6_qOf [2, 20, 42] rfl okX6_qOf rfl rfl rfl rfl (fun P hP => ?_)
  refine hP _ _ _ _ ?_
  have hop : k = 0 ∨ k = 1 ∨ k = 2 := by omega
  rcases hop with rfl | rfl | rfl
  · refine And.intro (fun _ => ?_) (fun h => absurd rfl h)
    refine hP _ _ _ _ ?_
    refine mcall (c_streetMany G g l (d+7) σ) (fun r s1 h9 => ?_)
    obtain ⟨rfl, e9⟩ := h9
    subst e9
    refine mcall (c_isIn G g l (d+7) s1 _ _ _) (fun r s2 h9 => ?_)
    obtain ⟨rfl, e9⟩ := h9
    subst e9
    rw [e4, isInZ hz (by omega)]
    by_cases hin : 0 ≤ z ∧ z < (Tns T : Int)
    · rw [decide_eq_true hin]
      obtain ⟨m, rfl⟩ : ∃ m : Nat, z = m := ⟨z.toNat, by omega⟩
      refine And.intro (fun q => absurd q (by decide)) (fun _ => ?_)
      refine mcall (c_widthOf G g l (d+3) s2 T n h _ _ m i (zL_i (by omega)) rfl (by omega) (by omega)) (fun r s3 h9 => ?_)
      obtain ⟨rfl, S3⟩ := h9
      refine ⟨?_, S3⟩
      show some (Sum.inr (Sum.inl (nI (wid T m (Nsh n m) i)).toInt64)) = _
      have hwl := wid_le T m (Nsh n m) i
      rw [nI_zL (by omega), ← ho]
      unfold ofQ
      rw [if_pos rfl, if_pos hin]
      rfl
    · rw [decide_eq_false hin]
      refine And.intro (fun _ => ⟨?_, mS.rf⟩) (fun q => absurd rfl q)
      rw [← ho]
      unfold ofQ
      rw [if_pos rfl, if_neg hin]
      rfl
  · refine And.intro (fun h => absurd h (by decide)) (fun _ => And.intro (fun _ => ?_) (fun h => absurd rfl h))
    refine hP _ _ _ _ ?_
    refine mcall (c_streetMany G g l (d+7) σ) (fun r s1 h9 => ?_)
    obtain ⟨rfl, e9⟩ := h9
    subst e9
    refine mcall (c_isIn G g l (d+7) s1 _ _ _) (fun r s2 h9 => ?_)
    obtain ⟨rfl, e9⟩ := h9
    subst e9
    rw [e4, isInZ hz (by omega)]
    by_cases hin : 0 ≤ z ∧ z < (Tns T : Int)
    · rw [decide_eq_true hin]
      obtain ⟨m, rfl⟩ : ∃ m : Nat, z = m := ⟨z.toNat, by omega⟩
      have hm : m < Tns T := by omega
      have hsh := h.sh hm
      have hrd := (h.1.2.1 m hm).2.2.2.2.1
      refine And.intro (fun q => absurd q (by decide)) (fun _ => ?_)
      refine mcall (c_shiftOf G g l (d+7) s2 _ m (zL_i (by omega)) (by omega)) (fun r s3 h9 => ?_)
      obtain ⟨rfl, e9⟩ := h9
      subst e9
      refine mcall (c_tideOf G g l (d+6) s3 T h.2.2.1 h.1 _ _ _ m i (Nsh n m) (zL_i (by omega)) rfl hsh.1 hm (by omega) (by omega)) (fun r s4 h9 => ?_)
      obtain ⟨rfl, e9⟩ := h9
      subst e9
      refine ⟨?_, mS.rf⟩
      show some (Sum.inr (Sum.inl (nI ((i + Nsh n m) % Trd T m)).toInt64)) = _
      have hml := Nat.mod_lt (i + Nsh n m) (show 0 < Trd T m by omega)
      rw [nI_zL (by omega), ← ho]
      unfold ofQ
      rw [if_neg (by omega), if_pos rfl, if_pos hin]
      rfl
    · rw [decide_eq_false hin]
      refine And.intro (fun _ => ⟨?_, mS.rf⟩) (fun q => absurd rfl q)
      rw [← ho]
      unfold ofQ
      rw [if_neg (by omega), if_pos rfl, if_neg hin]
      rfl
  · refine And.intro (fun h => absurd h (by decide)) (fun _ => And.intro (fun h => absurd h (by decide)) (fun _ => ?_))
    refine hP _ _ _ _ ?_
    refine mcall (c_walkerMany G g l (d+7) σ) (fun r s1 h9 => ?_)
    obtain ⟨rfl, e9⟩ := h9
    subst e9
    refine mcall (c_isIn G g l (d+7) s1 _ _ _) (fun r s2 h9 => ?_)
    obtain ⟨rfl, e9⟩ := h9
    subst e9
    rw [e5, isInZ hz (by omega)]
    by_cases hin : 0 ≤ z ∧ z < (Tnw T : Int)
    · rw [decide_eq_true hin]
      obtain ⟨m, rfl⟩ : ∃ m : Nat, z = m := ⟨z.toNat, by omega⟩
      refine And.intro (fun q => absurd q (by decide)) (fun _ => ?_)
      refine mcall (c_passedBy G g l d s2 T n h _ _ m i (zL_i (by omega)) rfl (by omega) hi) (fun r s3 h9 => ?_)
      obtain ⟨rfl, S3⟩ := h9
      refine ⟨?_, S3⟩
      rw [← ho]
      unfold ofQ
      rw [if_neg (by omega), if_neg (by omega), if_pos hin]
      rfl
    · rw [decide_eq_false hin]
      refine And.intro (fun _ => ⟨?_, mS.rf⟩) (fun q => absurd rfl q)
      rw [← ho]
      unfold ofQ
      rw [if_neg (by omega), if_neg (by omega), if_neg hin]
      rfl
end QO_
