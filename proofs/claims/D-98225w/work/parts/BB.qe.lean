def opQ (op : Nat) (a b : Int) : Int := if op ≤ 6 then opZ op a b else if op = 7 then (if a < b then 1 else 0) else if op = 8 then (if b < a then 1 else 0) else if op = 9 then (if a = b then 1 else 0) else if op = 10 then a * b else if 0 < a + b then 1 else 0
theorem opQ_z {op : Nat} (a b : Int) (h : op ≤ 6) : opQ op a b = opZ op a b := if_pos h
section QMB
variable (G : CX) (g : GX) (l : Launch) (d : Nat) (σ : AS)
theorem c_qClip (v : Int64) (z : Int) (hv : v = zL z) (h : inZ z) : MC G g l (d+1) mX6_qClip [jv v] σ (fun r s => r = some (jv (zL (clipZ z))) ∧ s = σ) := by
  subst hv
  have hm : inZ 1000000 := ⟨by omega, by omega⟩
  have hm2 : inZ (-1000000) := ⟨by omega, by omega⟩
  refine MC0 tX6_qClip rfl okX6_qClip rfl rfl rfl rfl (fun P => ?_)
  refine And.intro (fun h1 => And.intro (fun h2 => ?_) (fun h2 => ?_)) (fun h1 => ?_)
  · have h1 := (zL_le h hm).mp ((lg_cmp_le _ _).mp h1)
    have h2 : -1000000 ≤ z := (zL_le hm2 h).mp ((lg_cmp_ge _ _).mp h2)
    exact ⟨by rw [show clipZ z = z by unfold clipZ; rw [if_neg (by omega), if_neg (by omega)]], rfl⟩
  · have h1 := (zL_le h hm).mp ((lg_cmp_le _ _).mp h1)
    have h2 : ¬ -1000000 ≤ z := fun q => h2 ((lg_cmp_ge _ _).mpr ((zL_le hm2 h).mpr q))
    exact ⟨by rw [show clipZ z = -1000000 by unfold clipZ; rw [if_neg (by omega), if_pos (by omega)]]; rfl, rfl⟩
  · have h1 : ¬ z ≤ 1000000 := fun q => h1 ((lg_cmp_le _ _).mpr ((zL_le h hm).mpr q))
    exact ⟨by rw [show clipZ z = 1000000 by unfold clipZ; rw [if_pos (by omega)]]; rfl, rfl⟩
theorem c_qPuts (z : Int64) (n : Nat) (hn : gI σ 200 95 = nI n) (hn2 : n < 1700) : MC G g l (d+1) mX6_qPuts [tM, jv z] σ (fun r s => r = none ∧ gI s 200 95 = nI (n+1) ∧ gL s 266 n = z ∧ (∀ k, k ≠ n → gL s 266 k = gL σ 266 k) ∧ mS [95] [266] σ s) := by
  refine MC0 tX6_qPuts rfl okX6_qPuts rfl rfl rfl rfl (fun P => ?_)
  refine And.intro ?_ ?_
  · show vp_in (gI σ 200 95) 1700
    rw [hn]; exact vinN hn2 (by decide)
  · show none = none ∧ _
    have e : (gI σ 200 95).toNatClampNeg = n := by rw [hn, clN (by omega)]
    refine ⟨rfl, ?_, ?_, fun k hk => ?_, (mS.rf.al rfl).f rfl⟩
    · show gI σ 200 95 + nI 1 = _
      rw [hn, nI_add]
    · rw [gL_sI, gL_sL, e, if_pos ⟨rfl, rfl⟩]
    · rw [gL_sI, gL_sL, e, if_neg (fun q => hk q.2)]
theorem c_qFloor (v w : Int64) (a b : Int) (hv : v = zL a) (hw : w = zL b) (ha : mid a) (hb : mid b) : MC G g l (d+1) mX6_qFloor [jv v, jv w] σ (fun r s => r = some (jv (zL (floorZ a b))) ∧ s = σ) := by
  subst hv; subst hw
  have za : inZ a := ⟨by unfold mid at ha; omega, by unfold mid at ha; omega⟩
  have zb : inZ b := ⟨by unfold mid at hb; omega, by unfold mid at hb; omega⟩
  have z0 : inZ 0 := ⟨by omega, by omega⟩
  refine MC0 tX6_qFloor rfl okX6_qFloor rfl rfl rfl rfl (fun P => ?_)
  refine And.intro (fun h1 => ?_) (fun h1 => ?_)
  · have hb0 : b ≠ 0 := fun q => h1 ((lg_cmp_eq _ _).mpr ((zL_eq zb z0).mpr q))
    have hz : ¬ zL b = 0 := fun q => hb0 ((zL_eq zb z0).mp q)
    have hq : zL a - zL a / zL b * zL b = zL (a - a.tdiv b * b) := by rw [zL_div za zb, zL_mul, zL_sub]
    have hr : inZ (a - a.tdiv b * b) := by
      have e : a - a.tdiv b * b = a.tmod b := by
        have := Int.mul_tdiv_add_tmod a b
        rw [Int.mul_comm] at this
        omega
      rw [e]
      have := Int.natAbs_tmod a b
      have := Nat.mod_le a.natAbs b.natAbs
      unfold mid at ha
      constructor <;> omega
    have fin0 : ∀ v : Int, v = a.fdiv b → (fun (r : Option AV) (s : AS) => r = some (jv (zL (floorZ a b))) ∧ s = σ) (some (jv (zL v))) σ := fun v hv => ⟨by rw [hv]; unfold floorZ; rw [if_neg hb0], rfl⟩
    refine And.intro hz (And.intro hz (And.intro (fun h2 => ?_) (fun h2 => ?_)))
    · have h2 := (lg_cmp_eq _ _).mp h2
      rw [hq] at h2
      have h2 := (zL_eq hr z0).mp h2
      have := fin0 (a.tdiv b) (by rw [floor_eq hb0, if_neg (fun q => q.1 h2)])
      rw [← zL_div za zb] at this
      exact this
    · have h2 : a - a.tdiv b * b ≠ 0 := fun q => h2 ((lg_cmp_eq _ _).mpr (by rw [hq, q]; rfl))
      have same : decide (a < 0) = decide (b < 0) → (fun (r : Option AV) (s : AS) => r = some (jv (zL (floorZ a b))) ∧ s = σ) (some (jv (zL a / zL b))) σ := by
        intro e
        have := fin0 (a.tdiv b) (by rw [floor_eq hb0, if_neg (fun q => q.2 e)])
        rw [← zL_div za zb] at this
        exact this
      have diff : decide (a < 0) ≠ decide (b < 0) → (fun (r : Option AV) (s : AS) => r = some (jv (zL (floorZ a b))) ∧ s = σ) (some (jv (zL a / zL b - lN 1))) σ := by
        intro e
        have := fin0 (a.tdiv b - 1) (by rw [floor_eq hb0, if_pos ⟨h2, e⟩])
        rw [← zL_sub, ← zL_div za zb] at this
        exact this
      have ga : 0 ≤ lg_cmp (zL a) (lN 0) ↔ 0 ≤ a := (lg_cmp_ge _ _).trans (zL_le z0 za)
      have gb : 0 ≤ lg_cmp (zL b) (lN 0) ↔ 0 ≤ b := (lg_cmp_ge _ _).trans (zL_le z0 zb)
      refine And.intro (fun h3 => And.intro (fun h4 => And.intro (fun h5 => ?_) (fun h5 => ?_)) (fun h4 => And.intro (fun h5 => ?_) (fun h5 => ?_))) (fun h3 => And.intro (fun h4 => And.intro (fun h5 => ?_) (fun h5 => ?_)) (fun h4 => And.intro (fun h5 => ?_) (fun h5 => ?_)))
      · have h3 := ga.mp h3
        have h4 := gb.mp h4
        exact same (by rw [decide_eq_false (by omega), decide_eq_false (by omega)])
      · exact absurd rfl h5
      · exact absurd h5 (by decide)
      · have h3 := ga.mp h3
        have h4 : ¬ 0 ≤ b := fun q => h4 (gb.mpr q)
        exact diff (by rw [decide_eq_false (by omega), decide_eq_true (by omega)]; decide)
      · exact absurd h5 (by decide)
      · have h3 : ¬ 0 ≤ a := fun q => h3 (ga.mpr q)
        have h4 := gb.mp h4
        exact diff (by rw [decide_eq_true (by omega), decide_eq_false (by omega)]; decide)
      · have h3 : ¬ 0 ≤ a := fun q => h3 (ga.mpr q)
        have h4 : ¬ 0 ≤ b := fun q => h4 (gb.mpr q)
        exact same (by rw [decide_eq_true (by omega), decide_eq_true (by omega)])
      · exact absurd rfl h5
  · have hb0 : b = 0 := (zL_eq zb z0).mp ((lg_cmp_eq _ _).mp h1)
    exact ⟨by rw [hb0]; rfl, rfl⟩
end QMB

section QMC_
variable (G : CX) (g : GX) (l : Launch) (d : Nat) (σ : AS)
set_option maxRecDepth 20000 in
set_option maxHeartbeats 2000000 in
theorem c_qJoins (w : Int32) (op m : Nat) (a b : Int) (hw : w = nI op) (ha : mid a) (hb : mid b) (ho : 1 ≤ op ∧ op ≤ 11) (hn : gI σ 200 95 = nI (m+2)) (hm : m + 2 ≤ 1700) (hA : gL σ 266 m = zL a) (hB : gL σ 266 (m+1) = zL b) :
    MC G g l (d+2) mX6_qJoins [tM, iv w] σ (fun r s => r = none ∧ gI s 200 95 = nI (m+1) ∧ gL s 266 m = zL (opQ op a b) ∧ (∀ k, k ≠ m → gL s 266 k = gL σ 266 k) ∧ mS [95] [266] σ s) := by
  subst hw
  have e1 : gI σ 200 95 - nI 1 = nI (m+1) := by rw [hn, nI_s1 _ _ (by omega)]; rfl
  have e2 : gI σ 200 95 - nI 2 = nI m := by rw [hn, nI_s1 _ _ (by omega)]; rfl
  have eA : gL σ 266 (gI σ 200 95 - nI 2).toNatClampNeg = zL a := by rw [e2, clN (by omega), hA]
  have eB : gL σ 266 (gI σ 200 95 - nI 1).toNatClampNeg = zL b := by rw [e1, clN (by omega), hB]
  have fin_ : ∀ (v : Int64) (s' : AS), v = zL (opQ op a b) → (gI s' 200 95 = nI (m+1) ∧ gL s' 266 m = v ∧ (∀ k, k ≠ m → gL s' 266 k = gL (sI σ 200 95 (gI σ 200 95 - nI 2)) 266 k) ∧ mS [95] [266] (sI σ 200 95 (gI σ 200 95 - nI 2)) s') →
      (gI s' 200 95 = nI (m+1) ∧ gL s' 266 m = zL (opQ op a b) ∧ (∀ k, k ≠ m → gL s' 266 k = gL σ 266 k) ∧ mS [95] [266] σ s') := by
    intro v s' hv h
    exact ⟨h.1, hv ▸ h.2.1, h.2.2.1, (mS.rf.f rfl).tr h.2.2.2⟩
  have hp : gI (sI σ 200 95 (gI σ 200 95 - nI 2)) 200 95 = nI m := e2
  have za := mid_in ha
  have zb := mid_in hb
  unfold mid at ha hb
  refine MC1 tX6_qJoins [24, 31, 38, 45, 51, 61, 71, 81, 91, 101, 107] rfl okX6_qJoins rfl rfl rfl rfl (fun P hP => ?_)
  refine hP _ _ _ _ ?_
  refine And.intro ?_ (And.intro ?_ ?_)
  · show vp_in (gI σ 200 95 - nI 1) 1700
    rw [e1]; exact vinN (by omega) (by decide)
  · show vp_in (gI σ 200 95 - nI 2) 1700
    rw [e2]; exact vinN (by omega) (by decide)
  · have hop : op = 1 ∨ op = 2 ∨ op = 3 ∨ op = 4 ∨ op = 5 ∨ op = 6 ∨ op = 7 ∨ op = 8 ∨ op = 9 ∨ op = 10 ∨ op = 11 := by omega
    rcases hop with rfl | rfl | rfl | rfl | rfl | rfl | rfl | rfl | rfl | rfl | rfl
    · refine And.intro (fun _ => ?_) (fun h => absurd rfl h)
      refine hP _ _ _ _ ?_
      refine mcall (c_qClip G g l d _ _ (a + b) (by rw [eA, eB, zL_add]) ⟨by omega, by omega⟩) (fun r s1 h => ?_)
      obtain ⟨rfl, e8⟩ := h
      subst e8
      refine mcall (c_qPuts G g l d _ _ m hp (by omega)) (fun r s' h9 => ?_)
      obtain ⟨rfl, h9⟩ := h9
      exact ⟨rfl, fin_ _ s' (by rw [opQ_z _ _ (by omega)]; rfl) h9⟩
    · refine And.intro (fun h => absurd h (by decide)) (fun _ => And.intro (fun _ => ?_) (fun h => absurd rfl h))
      refine hP _ _ _ _ ?_
      refine mcall (c_qClip G g l d _ _ (a - b) (by rw [eA, eB, zL_sub]) ⟨by omega, by omega⟩) (fun r s1 h => ?_)
      obtain ⟨rfl, e8⟩ := h
      subst e8
      refine mcall (c_qPuts G g l d _ _ m hp (by omega)) (fun r s' h9 => ?_)
      obtain ⟨rfl, h9⟩ := h9
      exact ⟨rfl, fin_ _ s' (by rw [opQ_z _ _ (by omega)]; rfl) h9⟩
    · refine And.intro (fun h => absurd h (by decide)) (fun _ => And.intro (fun h => absurd h (by decide)) (fun _ => And.intro (fun _ => ?_) (fun h => absurd rfl h)))
      refine hP _ _ _ _ ?_
      have hab : inZ (a * b) := by
        have : (a * b).natAbs ≤ 1000000 * 1000000 := by rw [Int.natAbs_mul]; exact Nat.mul_le_mul (by omega) (by omega)
        constructor <;> omega
      refine mcall (c_qClip G g l d _ _ (a * b) (by rw [eA, eB, zL_mul]) hab) (fun r s1 h => ?_)
      obtain ⟨rfl, e8⟩ := h
      subst e8
      refine mcall (c_qPuts G g l d _ _ m hp (by omega)) (fun r s' h9 => ?_)
      obtain ⟨rfl, h9⟩ := h9
      exact ⟨rfl, fin_ _ s' (by rw [opQ_z _ _ (by omega)]; rfl) h9⟩
    · refine And.intro (fun h => absurd h (by decide)) (fun _ => And.intro (fun h => absurd h (by decide)) (fun _ => And.intro (fun h => absurd h (by decide)) (fun _ => And.intro (fun _ => ?_) (fun h => absurd rfl h))))
      refine hP _ _ _ _ ?_
      refine mcall (c_qFloor G g l d _ _ _ a b eA eB ha hb) (fun r s1 h => ?_)
      obtain ⟨rfl, e8⟩ := h
      subst e8
      refine mcall (c_qPuts G g l d _ _ m hp (by omega)) (fun r s' h9 => ?_)
      obtain ⟨rfl, h9⟩ := h9
      exact ⟨rfl, fin_ _ s' (by rw [opQ_z _ _ (by omega)]; rfl) h9⟩
    · refine And.intro (fun h => absurd h (by decide)) (fun _ => And.intro (fun h => absurd h (by decide)) (fun _ => And.intro (fun h => absurd h (by decide)) (fun _ => And.intro (fun h => absurd h (by decide)) (fun _ => And.intro (fun _ => ?_) (fun h => absurd rfl h)))))
      refine hP _ _ _ _ ?_
      refine And.intro (fun h => ?_) (fun h => ?_)
      · have h := (lg_cmp_ge _ _).mp h
        rw [eA, eB, zL_le zb za] at h
        refine mcall (c_qPuts G g l d _ _ m hp (by omega)) (fun r s' h9 => ?_)
        obtain ⟨rfl, h9⟩ := h9
        exact ⟨rfl, fin_ _ s' (by rw [eB]; show _ = zL (if a < b then a else b); rw [if_neg (by omega)]) h9⟩
      · have h : ¬ b ≤ a := fun q => h ((lg_cmp_ge _ _).mpr (by rw [eA, eB, zL_le zb za]; exact q))
        refine mcall (c_qPuts G g l d _ _ m hp (by omega)) (fun r s' h9 => ?_)
        obtain ⟨rfl, h9⟩ := h9
        exact ⟨rfl, fin_ _ s' (by rw [eA]; show _ = zL (if a < b then a else b); rw [if_pos (by omega)]) h9⟩
    · refine And.intro (fun h => absurd h (by decide)) (fun _ => And.intro (fun h => absurd h (by decide)) (fun _ => And.intro (fun h => absurd h (by decide)) (fun _ => And.intro (fun h => absurd h (by decide)) (fun _ => And.intro (fun h => absurd h (by decide)) (fun _ => And.intro (fun _ => ?_) (fun h => absurd rfl h))))))
      refine hP _ _ _ _ ?_
      refine And.intro (fun h => ?_) (fun h => ?_)
      · have h := (lg_cmp_le _ _).mp h
        rw [eA, eB, zL_le za zb] at h
        refine mcall (c_qPuts G g l d _ _ m hp (by omega)) (fun r s' h9 => ?_)
        obtain ⟨rfl, h9⟩ := h9
        exact ⟨rfl, fin_ _ s' (by rw [eB]; show _ = zL (if b < a then a else b); rw [if_neg (by omega)]) h9⟩
      · have h : ¬ a ≤ b := fun q => h ((lg_cmp_le _ _).mpr (by rw [eA, eB, zL_le za zb]; exact q))
        refine mcall (c_qPuts G g l d _ _ m hp (by omega)) (fun r s' h9 => ?_)
        obtain ⟨rfl, h9⟩ := h9
        exact ⟨rfl, fin_ _ s' (by rw [eA]; show _ = zL (if b < a then a else b); rw [if_pos (by omega)]) h9⟩
    · refine And.intro (fun h => absurd h (by decide)) (fun _ => And.intro (fun h => absurd h (by decide)) (fun _ => And.intro (fun h => absurd h (by decide)) (fun _ => And.intro (fun h => absurd h (by decide)) (fun _ => And.intro (fun h => absurd h (by decide)) (fun _ => And.intro (fun h => absurd h (by decide)) (fun _ => And.intro (fun _ => ?_) (fun h => absurd rfl h)))))))
      refine hP _ _ _ _ ?_
      refine And.intro (fun h => ?_) (fun h => ?_)
      · have h := (lg_cmp_ge _ _).mp h
        rw [eA, eB, zL_le zb za] at h
        refine mcall (c_qPuts G g l d _ _ m hp (by omega)) (fun r s' h9 => ?_)
        obtain ⟨rfl, h9⟩ := h9
        exact ⟨rfl, fin_ _ s' (by show _ = zL (if a < b then 1 else 0); rw [if_neg (by omega)]; rfl) h9⟩
      · have h : ¬ b ≤ a := fun q => h ((lg_cmp_ge _ _).mpr (by rw [eA, eB, zL_le zb za]; exact q))
        refine mcall (c_qPuts G g l d _ _ m hp (by omega)) (fun r s' h9 => ?_)
        obtain ⟨rfl, h9⟩ := h9
        exact ⟨rfl, fin_ _ s' (by show _ = zL (if a < b then 1 else 0); rw [if_pos (by omega)]; rfl) h9⟩
    · refine And.intro (fun h => absurd h (by decide)) (fun _ => And.intro (fun h => absurd h (by decide)) (fun _ => And.intro (fun h => absurd h (by decide)) (fun _ => And.intro (fun h => absurd h (by decide)) (fun _ => And.intro (fun h => absurd h (by decide)) (fun _ => And.intro (fun h => absurd h (by decide)) (fun _ => And.intro (fun h => absurd h (by decide)) (fun _ => And.intro (fun _ => ?_) (fun h => absurd rfl h))))))))
      refine hP _ _ _ _ ?_
      refine And.intro (fun h => ?_) (fun h => ?_)
      · have h := (lg_cmp_le _ _).mp h
        rw [eA, eB, zL_le za zb] at h
        refine mcall (c_qPuts G g l d _ _ m hp (by omega)) (fun r s' h9 => ?_)
        obtain ⟨rfl, h9⟩ := h9
        exact ⟨rfl, fin_ _ s' (by show _ = zL (if b < a then 1 else 0); rw [if_neg (by omega)]; rfl) h9⟩
      · have h : ¬ a ≤ b := fun q => h ((lg_cmp_le _ _).mpr (by rw [eA, eB, zL_le za zb]; exact q))
        refine mcall (c_qPuts G g l d _ _ m hp (by omega)) (fun r s' h9 => ?_)
        obtain ⟨rfl, h9⟩ := h9
        exact ⟨rfl, fin_ _ s' (by show _ = zL (if b < a then 1 else 0); rw [if_pos (by omega)]; rfl) h9⟩
    · refine And.intro (fun h => absurd h (by decide)) (fun _ => And.intro (fun h => absurd h (by decide)) (fun _ => And.intro (fun h => absurd h (by decide)) (fun _ => And.intro (fun h => absurd h (by decide)) (fun _ => And.intro (fun h => absurd h (by decide)) (fun _ => And.intro (fun h => absurd h (by decide)) (fun _ => And.intro (fun h => absurd h (by decide)) (fun _ => And.intro (fun h => absurd h (by decide)) (fun _ => And.intro (fun _ => ?_) (fun h => absurd rfl h)))))))))
      refine hP _ _ _ _ ?_
      refine And.intro (fun h => ?_) (fun h => ?_)
      · have h : ¬ a = b := fun q => h ((lg_cmp_eq _ _).mpr (by rw [eA, eB, q]))
        refine mcall (c_qPuts G g l d _ _ m hp (by omega)) (fun r s' h9 => ?_)
        obtain ⟨rfl, h9⟩ := h9
        exact ⟨rfl, fin_ _ s' (by show _ = zL (if a = b then 1 else 0); rw [if_neg (by omega)]; rfl) h9⟩
      · have h := (lg_cmp_eq _ _).mp h
        rw [eA, eB, zL_eq za zb] at h
        refine mcall (c_qPuts G g l d _ _ m hp (by omega)) (fun r s' h9 => ?_)
        obtain ⟨rfl, h9⟩ := h9
        exact ⟨rfl, fin_ _ s' (by show _ = zL (if a = b then 1 else 0); rw [if_pos (by omega)]; rfl) h9⟩
    · refine And.intro (fun h => absurd h (by decide)) (fun _ => And.intro (fun h => absurd h (by decide)) (fun _ => And.intro (fun h => absurd h (by decide)) (fun _ => And.intro (fun h => absurd h (by decide)) (fun _ => And.intro (fun h => absurd h (by decide)) (fun _ => And.intro (fun h => absurd h (by decide)) (fun _ => And.intro (fun h => absurd h (by decide)) (fun _ => And.intro (fun h => absurd h (by decide)) (fun _ => And.intro (fun h => absurd h (by decide)) (fun _ => And.intro (fun _ => ?_) (fun h => absurd rfl h))))))))))
      refine hP _ _ _ _ ?_
      refine mcall (c_qPuts G g l d _ _ m hp (by omega)) (fun r s' h9 => ?_)
      obtain ⟨rfl, h9⟩ := h9
      exact ⟨rfl, fin_ _ s' (by rw [eA, eB, zL_mul]; rfl) h9⟩
    · refine And.intro (fun h => absurd h (by decide)) (fun _ => And.intro (fun h => absurd h (by decide)) (fun _ => And.intro (fun h => absurd h (by decide)) (fun _ => And.intro (fun h => absurd h (by decide)) (fun _ => And.intro (fun h => absurd h (by decide)) (fun _ => And.intro (fun h => absurd h (by decide)) (fun _ => And.intro (fun h => absurd h (by decide)) (fun _ => And.intro (fun h => absurd h (by decide)) (fun _ => And.intro (fun h => absurd h (by decide)) (fun _ => And.intro (fun h => absurd h (by decide)) (fun _ => ?_))))))))))
      refine hP _ _ _ _ ?_
      refine And.intro (fun h => ?_) (fun h => ?_)
      · have h := (lg_cmp_le _ _).mp h
        rw [eA, eB, zL_add] at h
        have h := (zL_le (a := a + b) (b := 0) ⟨by omega, by omega⟩ ⟨by omega, by omega⟩).mp h
        refine mcall (c_qPuts G g l d _ _ m hp (by omega)) (fun r s' h9 => ?_)
        obtain ⟨rfl, h9⟩ := h9
        exact ⟨rfl, fin_ _ s' (by show _ = zL (if 0 < a + b then 1 else 0); rw [if_neg (by omega)]; rfl) h9⟩
      · have h : ¬ a + b ≤ 0 := fun q => h ((lg_cmp_le _ _).mpr (by rw [eA, eB, zL_add]; exact (zL_le (a := a + b) (b := 0) ⟨by omega, by omega⟩ ⟨by omega, by omega⟩).mpr q))
        refine mcall (c_qPuts G g l d _ _ m hp (by omega)) (fun r s' h9 => ?_)
        obtain ⟨rfl, h9⟩ := h9
        exact ⟨rfl, fin_ _ s' (by show _ = zL (if 0 < a + b then 1 else 0); rw [if_pos (by omega)]; rfl) h9⟩
def ptQ (k i : Nat) : Nat := if k = 0 then i else if k = 1 then i % 24 else i / 24
theorem c_qPartOf (x y : Int32) (k i : Nat) (hx : x = nI k) (hy : y = nI i) (hk : k < 3) (hi : i ≤ 1000000) : MC G g l (d+1) mX6_qPartOf [tM, iv x, iv y] σ (fun r t => r = some (jv (lN (ptQ k i))) ∧ t = σ) := by
  subst hx; subst hy
  refine MC0 tX6_qPartOf rfl okX6_qPartOf rfl rfl rfl rfl (fun P => ?_)
  have hop : k = 0 ∨ k = 1 ∨ k = 2 := by omega
  rcases hop with rfl | rfl | rfl
  · refine And.intro (fun _ => ⟨?_, rfl⟩) (fun h => absurd rfl h)
    show some (Sum.inr (Sum.inl (nI i).toInt64)) = _
    rw [nI_l (by omega)]; rfl
  · refine And.intro (fun h => absurd h (by decide)) (fun _ => And.intro (fun _ => And.intro (by decide) ⟨?_, rfl⟩) (fun h => absurd rfl h))
    show some (Sum.inr (Sum.inl (nI i - nI i / nI 24 * nI 24).toInt64)) = _
    rw [pk_rem (by omega) (by omega) (by omega), nI_l (by omega)]; rfl
  · refine And.intro (fun h => absurd h (by decide)) (fun _ => And.intro (fun h => absurd h (by decide)) (fun _ => And.intro (by decide) ⟨?_, rfl⟩))
    show some (Sum.inr (Sum.inl (nI i / nI 24).toInt64)) = _
    rw [pk_div (by omega) (by omega) (by omega), nI_l (by omega)]; rfl
end QMC_
