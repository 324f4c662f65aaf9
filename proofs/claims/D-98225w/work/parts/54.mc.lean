section MC_
variable (G : CX) (g : GX) (l : Launch) (d : Nat) (σ : AS)
theorem nI_s1 (m k : Nat) (h : k ≤ m) : nI m - nI k = nI (m - k) := pk_sub h
theorem mid_in {z : Int} (h : mid z) : inZ z := ⟨by unfold mid at h; omega, by unfold mid at h; omega⟩
theorem opZ_mid {op : Nat} {a b : Int} (ha : mid a) (hb : mid b) : mid (opZ op a b) := by
  unfold opZ
  split
  · exact clipZ_in _
  · exact clipZ_in _
  · exact clipZ_in _
  · unfold floorZ
    split
    · exact ⟨by omega, by omega⟩
    · rename_i hb0
      rw [floor_eq hb0]
      have := Int.natAbs_tdiv_le_natAbs a b
      unfold mid at *
      by_cases h1 : a.tdiv b = -1000000
      · have hb1 : b = 1 ∨ b ≠ 1 := by omega
        split
        · rename_i hq
          exfalso
          have h2 := Int.natAbs_tdiv a b
          have h3 : a = -1000000 ∨ a = 1000000 := by omega
          have h4 := Int.mul_tdiv_add_tmod a b
          have h5 := Int.natAbs_tmod a b
          have h6 : b.natAbs = 1 := by
            have h7 : a.natAbs = 1000000 := by omega
            have h2 : 1000000 = 1000000 / b.natAbs := by
              rw [h1, h7] at h2
              exact h2
            by_cases h8 : b.natAbs ≤ 1
            · omega
            · have : 1000000 / b.natAbs ≤ 1000000 / 2 := Nat.div_le_div_left (by omega) (by omega)
              omega
          rw [h6, Nat.mod_one] at h5
          have h9 : a.tmod b = 0 := by omega
          apply hq.1
          rw [Int.mul_comm] at h4
          omega
        · omega
      · split <;> omega
  · split
    · exact ha
    · exact hb
  · split
    · exact ha
    · exact hb
set_option maxHeartbeats 1000000 in
theorem c_joins (w : Int32) (op m : Nat) (a b : Int) (hw : w = nI op) (ha : mid a) (hb : mid b) (ho : 1 ≤ op ∧ op ≤ 6) (hn : gI σ 200 43 = nI (m+2)) (hm : m + 2 ≤ 1700) (hA : gL σ 228 m = zL a) (hB : gL σ 228 (m+1) = zL b) :
    MC G g l (d+2) mX6_joins [tM, iv w] σ (fun r s => r = none ∧ gI s 200 43 = nI (m+1) ∧ gL s 228 m = zL (opZ op a b) ∧ (∀ k, k ≠ m → gL s 228 k = gL σ 228 k) ∧ mS [43] [228] σ s) := by
  subst hw
  have e1 : gI σ 200 43 - nI 1 = nI (m+1) := by rw [hn, nI_s1 _ _ (by omega)]; rfl
  have e2 : gI σ 200 43 - nI 2 = nI m := by rw [hn, nI_s1 _ _ (by omega)]; rfl
  have eA : gL σ 228 (gI σ 200 43 - nI 2).toNatClampNeg = zL a := by rw [e2, clN (by omega), hA]
  have eB : gL σ 228 (gI σ 200 43 - nI 1).toNatClampNeg = zL b := by rw [e1, clN (by omega), hB]
  have fin_ : ∀ (v : Int64) (s' : AS), v = zL (opZ op a b) → (gI s' 200 43 = nI (m+1) ∧ gL s' 228 m = v ∧ (∀ k, k ≠ m → gL s' 228 k = gL (sI σ 200 43 (gI σ 200 43 - nI 2)) 228 k) ∧ mS [43] [228] (sI σ 200 43 (gI σ 200 43 - nI 2)) s') →
      (gI s' 200 43 = nI (m+1) ∧ gL s' 228 m = zL (opZ op a b) ∧ (∀ k, k ≠ m → gL s' 228 k = gL σ 228 k) ∧ mS [43] [228] σ s') := by
    intro v s' hv h
    exact ⟨h.1, hv ▸ h.2.1, h.2.2.1, (mS.rf.f rfl).tr h.2.2.2⟩
  have hp : gI (sI σ 200 43 (gI σ 200 43 - nI 2)) 200 43 = nI m := e2
  have za := mid_in ha
  have zb := mid_in hb
  unfold mid at ha hb
  refine MC0 tX6_joins rfl okX6_joins rfl rfl rfl rfl (fun P => ?_)
  refine And.intro ?_ (And.intro ?_ ?_)
  · show vp_in (gI σ 200 43 - nI 1) 1700
    rw [e1]; exact vinN (by omega) (by decide)
  · show vp_in (gI σ 200 43 - nI 2) 1700
    rw [e2]; exact vinN (by omega) (by decide)
  · have hop : op = 1 ∨ op = 2 ∨ op = 3 ∨ op = 4 ∨ op = 5 ∨ op = 6 := by omega
    rcases hop with rfl | rfl | rfl | rfl | rfl | rfl
    · refine And.intro (fun _ => ?_) (fun h => absurd rfl h)
      refine mcall (c_clip G g l d _ _ (a + b) (by rw [eA, eB, zL_add]) ⟨by omega, by omega⟩) (fun r s' h => ?_)
      obtain ⟨rfl, rfl⟩ := h
      refine mcall (c_puts G g l d _ _ m hp (by omega)) (fun r s' h => ?_)
      obtain ⟨rfl, h⟩ := h
      exact ⟨rfl, fin_ _ s' rfl h⟩
    · refine And.intro (fun h => absurd h (by decide)) (fun _ => And.intro (fun _ => ?_) (fun h => absurd rfl h))
      refine mcall (c_clip G g l d _ _ (a - b) (by rw [eA, eB, zL_sub]) ⟨by omega, by omega⟩) (fun r s' h => ?_)
      obtain ⟨rfl, rfl⟩ := h
      refine mcall (c_puts G g l d _ _ m hp (by omega)) (fun r s' h => ?_)
      obtain ⟨rfl, h⟩ := h
      exact ⟨rfl, fin_ _ s' rfl h⟩
    · refine And.intro (fun h => absurd h (by decide)) (fun _ => And.intro (fun h => absurd h (by decide)) (fun _ => And.intro (fun _ => ?_) (fun h => absurd rfl h)))
      have hab : inZ (a * b) := by
        have : (a * b).natAbs ≤ 1000000 * 1000000 := by rw [Int.natAbs_mul]; exact Nat.mul_le_mul (by omega) (by omega)
        constructor <;> omega
      refine mcall (c_clip G g l d _ _ (a * b) (by rw [eA, eB, zL_mul]) hab) (fun r s' h => ?_)
      obtain ⟨rfl, rfl⟩ := h
      refine mcall (c_puts G g l d _ _ m hp (by omega)) (fun r s' h => ?_)
      obtain ⟨rfl, h⟩ := h
      exact ⟨rfl, fin_ _ s' rfl h⟩
    · refine And.intro (fun h => absurd h (by decide)) (fun _ => And.intro (fun h => absurd h (by decide)) (fun _ => And.intro (fun h => absurd h (by decide)) (fun _ => And.intro (fun _ => ?_) (fun h => absurd rfl h))))
      refine mcall (c_floor G g l d _ _ _ a b eA eB ha hb) (fun r s' h => ?_)
      obtain ⟨rfl, rfl⟩ := h
      refine mcall (c_puts G g l d _ _ m hp (by omega)) (fun r s' h => ?_)
      obtain ⟨rfl, h⟩ := h
      exact ⟨rfl, fin_ _ s' rfl h⟩
    · refine And.intro (fun h => absurd h (by decide)) (fun _ => And.intro (fun h => absurd h (by decide)) (fun _ => And.intro (fun h => absurd h (by decide)) (fun _ => And.intro (fun h => absurd h (by decide)) (fun _ => And.intro (fun _ => ?_) (fun h => absurd rfl h)))))
      refine And.intro (fun h => ?_) (fun h => ?_)
      · have h := (lg_cmp_ge _ _).mp h
        rw [eA, eB, zL_le zb za] at h
        refine mcall (c_puts G g l d _ _ m hp (by omega)) (fun r s' h9 => ?_)
        obtain ⟨rfl, h9⟩ := h9
        exact ⟨rfl, fin_ _ s' (by rw [eB]; show _ = zL (if a < b then a else b); rw [if_neg (by omega)]) h9⟩
      · have h : ¬ b ≤ a := fun q => h ((lg_cmp_ge _ _).mpr (by rw [eA, eB, zL_le zb za]; exact q))
        refine mcall (c_puts G g l d _ _ m hp (by omega)) (fun r s' h9 => ?_)
        obtain ⟨rfl, h9⟩ := h9
        exact ⟨rfl, fin_ _ s' (by rw [eA]; show _ = zL (if a < b then a else b); rw [if_pos (by omega)]) h9⟩
    · refine And.intro (fun h => absurd h (by decide)) (fun _ => And.intro (fun h => absurd h (by decide)) (fun _ => And.intro (fun h => absurd h (by decide)) (fun _ => And.intro (fun h => absurd h (by decide)) (fun _ => And.intro (fun h => absurd h (by decide)) (fun _ => ?_)))))
      refine And.intro (fun h => ?_) (fun h => ?_)
      · have h := (lg_cmp_le _ _).mp h
        rw [eA, eB, zL_le za zb] at h
        refine mcall (c_puts G g l d _ _ m hp (by omega)) (fun r s' h9 => ?_)
        obtain ⟨rfl, h9⟩ := h9
        exact ⟨rfl, fin_ _ s' (by rw [eB]; show _ = zL (if b < a then a else b); rw [if_neg (by omega)]) h9⟩
      · have h : ¬ a ≤ b := fun q => h ((lg_cmp_le _ _).mpr (by rw [eA, eB, zL_le za zb]; exact q))
        refine mcall (c_puts G g l d _ _ m hp (by omega)) (fun r s' h9 => ?_)
        obtain ⟨rfl, h9⟩ := h9
        exact ⟨rfl, fin_ _ s' (by rw [eA]; show _ = zL (if b < a then a else b); rw [if_pos (by omega)]) h9⟩
end MC_
