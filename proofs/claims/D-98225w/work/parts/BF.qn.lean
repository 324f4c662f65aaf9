/-- the answer as it grows -/
def tkQ (k : Nat) (v : Int) (i : Nat) (A : Int × Bool) : Int := if k = 0 then (if v = 1 ∧ A.1 = -1 then (i : Int) else A.1) else if k = 1 then (if v = 1 then (i : Int) else A.1) else if k = 2 then (if v = 1 then A.1 + 1 else A.1) else if k = 3 then A.1 + v else if k = 4 then (if A.2 = true ∨ A.1 < v then v else A.1) else if A.2 = true ∨ v < A.1 then v else A.1
section QN_
variable (G : CX) (g : GX) (l : Launch) (d : Nat) (σ : AS)
set_option maxHeartbeats 1000000 in
theorem c_qTakes (x y : Int32) (v : Int64) (k i : Nat) (z : Int) (A : Int × Bool) (hx : x = nI k) (hv : v = zL z) (hz : mid z) (hy : y = nI i) (hk : k < 6) (hi : i ≤ 900000) (hA : inZ A.1) (h1 : gL σ 200 96 = zL A.1) (h2 : gI σ 200 97 = bI A.2) :
    MC G g l (d+1) mX6_qTakes [tM, iv x, jv v, iv y] σ (fun r t => r = none ∧ mS [96, 97] [] σ t ∧ gL t 200 96 = zL (tkQ k z i A) ∧ gI t 200 97 = bI false) := by
  subst hx; subst hy; subst hv
  have zz := mid_in hz
  have z1 : inZ 1 := ⟨by omega, by omega⟩
  have zm : inZ (-1) := ⟨by omega, by omega⟩
  generalize ho : tkQ k z i A = q
  refine MC1 tX6_qTakes [11, 20, 25, 29, 40, 49, 64, 69, 72] rfl okX6_qTakes rfl rfl rfl rfl (fun P hP => ?_)
  have at72 : ∀ (τ : AS) (b : Int32), mS [96, 97] [] σ τ → gL τ 200 96 = zL q → P 72 [some tM, some (iv (nI k)), some (jv (zL z)), none, some (iv (nI i)), some (iv b)] [] τ := by
    intro τ b hS hg
    refine hP _ _ _ _ ⟨nar0, rfl, hS.f rfl, hg, ?_⟩
    rw [gI_sI, if_pos ⟨rfl, rfl⟩]; rfl
  have at69 : ∀ (τ : AS) (b : Int32), mS [96, 97] [] σ τ → z = q → P 69 [some tM, some (iv (nI k)), some (jv (zL z)), none, some (iv (nI i)), some (iv b)] [] τ := by
    intro τ b hS hq
    refine hP _ _ _ _ ?_
    refine at72 (sL τ 200 96 (zL z)) b (hS.fl rfl) ?_
    rw [gL_sL, if_pos ⟨rfl, rfl⟩, hq]
  have at49 : ∀ (τ : AS) (b : Int32), k ≤ 3 → mS [96, 97] [] σ τ → gL τ 200 96 = zL q → P 49 [some tM, some (iv (nI k)), some (jv (zL z)), none, some (iv (nI i)), some (iv b)] [] τ := by
    intro τ b hk3 hS hg
    exact hP _ _ _ _ (And.intro (fun _ => at72 τ b hS hg) (fun q9 => absurd (show nI k ≤ nI 3 from nI_le (by omega) (by omega)) q9))
  have at40 : ∀ (τ : AS) (b : Int32), k ≤ 2 → mS [96, 97] [] σ τ → gL τ 200 96 = zL q → P 40 [some tM, some (iv (nI k)), some (jv (zL z)), none, some (iv (nI i)), some (iv b)] [] τ := by
    intro τ b hk3 hS hg
    exact hP _ _ _ _ (And.intro (fun _ => at49 τ b (by omega) hS hg) (fun q9 => absurd (show nI k = nI 3 from q9) (by rw [nI_eq (by omega) (by omega)]; omega)))
  have at29 : ∀ (τ : AS) (b : Int32), k ≤ 1 → mS [96, 97] [] σ τ → gL τ 200 96 = zL q → P 29 [some tM, some (iv (nI k)), some (jv (zL z)), none, some (iv (nI i)), some (iv b)] [] τ := by
    intro τ b hk3 hS hg
    exact hP _ _ _ _ (And.intro (fun _ => at40 τ b (by omega) hS hg) (fun q9 => absurd (show nI k = nI 2 from q9) (by rw [nI_eq (by omega) (by omega)]; omega)))
  have at25 : ∀ (τ : AS) (b : Int32), k ≤ 1 → mS [96, 97] [] σ τ → (i : Int) = q → P 25 [some tM, some (iv (nI k)), some (jv (zL z)), none, some (iv (nI i)), some (iv b)] [] τ := by
    intro τ b hk3 hS hq
    refine hP _ _ _ _ ?_
    refine at29 (sL τ 200 96 (nI i).toInt64) b hk3 (hS.fl rfl) ?_
    rw [gL_sL, if_pos ⟨rfl, rfl⟩, nI_zL (by omega), hq]
  -- behind the test
  have at11 : ∀ (b : Bool), b = decide (k < 3 ∧ z = 1) → P 11 [some tM, some (iv (nI k)), some (jv (zL z)), none, some (iv (nI i)), some (iv (bI b))] [] σ := by
    intro b hb
    have hop : k = 0 ∨ k = 1 ∨ k = 2 ∨ k = 3 ∨ k = 4 ∨ k = 5 := by omega
    rcases hop with rfl | rfl | rfl | rfl | rfl | rfl
    · refine hP _ _ _ _ (And.intro (fun q9 => absurd rfl q9) (fun _ => ?_))
      have no20 : (gL σ 200 96 = zL q) → P 20 [some tM, some (iv (nI 0)), some (jv (zL z)), none, some (iv (nI i)), some (iv (bI b))] [] σ := fun hg => hP _ _ _ _ (And.intro (fun _ => at29 σ _ (by omega) mS.rf hg) (fun q9 => absurd q9 (by decide)))
      by_cases hz1 : z = 1
      · rw [decide_eq_true ⟨by omega, hz1⟩] at hb
        subst hb
        refine And.intro (fun q9 => absurd q9 (by decide)) (fun _ => And.intro (fun q9 => ?_) (fun q9 => ?_))
        · have q8 := (lg_cmp_eq _ _).mp q9
          rw [h1] at q8
          have q7 : A.1 = -1 := (zL_eq hA zm).mp q8
          exact at25 σ _ (by omega) mS.rf (by rw [← ho]; unfold tkQ; rw [if_pos rfl, if_pos ⟨hz1, q7⟩])
        · have q7 : ¬ A.1 = -1 := fun e => q9 ((lg_cmp_eq _ _).mpr (by rw [h1, e]; rfl))
          exact no20 (by rw [h1, ← ho]; unfold tkQ; rw [if_pos rfl, if_neg (fun e => q7 e.2)])
      · rw [decide_eq_false (fun e => hz1 e.2)] at hb
        subst hb
        refine And.intro (fun _ => ?_) (fun q9 => absurd rfl q9)
        exact no20 (by rw [h1, ← ho]; unfold tkQ; rw [if_pos rfl, if_neg (fun e => hz1 e.1)])
    · refine hP _ _ _ _ (And.intro (fun _ => ?_) (fun q9 => absurd q9 (by decide)))
      by_cases hz1 : z = 1
      · rw [decide_eq_true ⟨by omega, hz1⟩] at hb
        subst hb
        refine hP _ _ _ _ (And.intro (fun q9 => absurd rfl q9) (fun _ => And.intro (fun q9 => absurd q9 (by decide)) (fun _ => ?_)))
        exact at25 σ _ (by omega) mS.rf (by rw [← ho]; unfold tkQ; rw [if_neg (by omega), if_pos rfl, if_pos hz1])
      · rw [decide_eq_false (fun e => hz1 e.2)] at hb
        subst hb
        refine hP _ _ _ _ (And.intro (fun q9 => absurd rfl q9) (fun _ => And.intro (fun _ => ?_) (fun q9 => absurd rfl q9)))
        exact at29 σ _ (by omega) mS.rf (by rw [h1, ← ho]; unfold tkQ; rw [if_neg (by omega), if_pos rfl, if_neg hz1])
    · refine hP _ _ _ _ (And.intro (fun _ => ?_) (fun q9 => absurd q9 (by decide)))
      refine hP _ _ _ _ (And.intro (fun _ => ?_) (fun q9 => absurd q9 (by decide)))
      by_cases hz1 : z = 1
      · rw [decide_eq_true ⟨by omega, hz1⟩] at hb
        subst hb
        refine hP _ _ _ _ (And.intro (fun q9 => absurd rfl q9) (fun _ => And.intro (fun q9 => absurd q9 (by decide)) (fun _ => ?_)))
        refine at40 (sL σ 200 96 (gL σ 200 96 + lN 1)) _ (by omega) (mS.rf.fl rfl) ?_
        rw [gL_sL, if_pos ⟨rfl, rfl⟩, h1, lN_zL, zL_add, ← ho]
        unfold tkQ
        rw [if_neg (by omega), if_neg (by omega), if_pos rfl, if_pos hz1]
        rfl
      · rw [decide_eq_false (fun e => hz1 e.2)] at hb
        subst hb
        refine hP _ _ _ _ (And.intro (fun q9 => absurd rfl q9) (fun _ => And.intro (fun _ => ?_) (fun q9 => absurd rfl q9)))
        exact at40 σ _ (by omega) mS.rf (by rw [h1, ← ho]; unfold tkQ; rw [if_neg (by omega), if_neg (by omega), if_pos rfl, if_neg hz1])
    · refine hP _ _ _ _ (And.intro (fun _ => ?_) (fun q9 => absurd q9 (by decide)))
      refine hP _ _ _ _ (And.intro (fun _ => ?_) (fun q9 => absurd q9 (by decide)))
      refine hP _ _ _ _ (And.intro (fun _ => ?_) (fun q9 => absurd q9 (by decide)))
      refine hP _ _ _ _ (And.intro (fun q9 => absurd rfl q9) (fun _ => ?_))
      refine at49 (sL σ 200 96 (gL σ 200 96 + zL z)) _ (by omega) (mS.rf.fl rfl) ?_
      rw [gL_sL, if_pos ⟨rfl, rfl⟩, h1, zL_add, ← ho]
      unfold tkQ
      rw [if_neg (by omega), if_neg (by omega), if_neg (by omega), if_pos rfl]
    · refine hP _ _ _ _ (And.intro (fun _ => ?_) (fun q9 => absurd q9 (by decide)))
      refine hP _ _ _ _ (And.intro (fun _ => ?_) (fun q9 => absurd q9 (by decide)))
      refine hP _ _ _ _ (And.intro (fun _ => ?_) (fun q9 => absurd q9 (by decide)))
      refine hP _ _ _ _ (And.intro (fun _ => ?_) (fun q9 => absurd q9 (by decide)))
      have eq4 : tkQ 4 z i A = if A.2 = true ∨ A.1 < z then z else A.1 := rfl
      rw [eq4] at ho
      refine hP _ _ _ _ (And.intro (fun q9 => absurd q9 (by decide)) (fun _ => And.intro (fun q9 => ?_) (fun q9 => ?_)))
      · have q8 : ¬ gI σ 200 97 = nI 0 := q9
        rw [h2] at q8
        have hn : A.2 = true := by cases hb2 : A.2 with
          | true => rfl
          | false => rw [hb2] at q8; exact absurd rfl q8
        exact at69 σ _ mS.rf (by rw [← ho, if_pos (Or.inl hn)])
      · have q8 : gI σ 200 97 = nI 0 := q9
        rw [h2] at q8
        have hn : ¬ A.2 = true := fun e => by rw [e] at q8; exact absurd q8 (by decide)
        refine And.intro (fun q7 => absurd rfl q7) (fun _ => And.intro (fun q7 => ?_) (fun q7 => ?_))
        · have q6 := (lg_cmp_le _ _).mp q7
          rw [h1, zL_le zz hA] at q6
          exact at72 σ _ mS.rf (by rw [h1, ← ho, if_neg (by rintro (e | e); exact hn e; omega)])
        · have q6 : ¬ z ≤ A.1 := fun e => q7 ((lg_cmp_le _ _).mpr (by rw [h1, zL_le zz hA]; exact e))
          exact at69 σ _ mS.rf (by rw [← ho, if_pos (Or.inr (by omega))])
    · refine hP _ _ _ _ (And.intro (fun _ => ?_) (fun q9 => absurd q9 (by decide)))
      refine hP _ _ _ _ (And.intro (fun _ => ?_) (fun q9 => absurd q9 (by decide)))
      refine hP _ _ _ _ (And.intro (fun _ => ?_) (fun q9 => absurd q9 (by decide)))
      refine hP _ _ _ _ (And.intro (fun _ => ?_) (fun q9 => absurd q9 (by decide)))
      have eq5 : tkQ 5 z i A = if A.2 = true ∨ z < A.1 then z else A.1 := rfl
      rw [eq5] at ho
      refine hP _ _ _ _ (And.intro (fun q9 => absurd q9 (by decide)) (fun _ => And.intro (fun q9 => ?_) (fun q9 => ?_)))
      · have q8 : ¬ gI σ 200 97 = nI 0 := q9
        rw [h2] at q8
        have hn : A.2 = true := by cases hb2 : A.2 with
          | true => rfl
          | false => rw [hb2] at q8; exact absurd rfl q8
        exact at69 σ _ mS.rf (by rw [← ho, if_pos (Or.inl hn)])
      · have q8 : gI σ 200 97 = nI 0 := q9
        rw [h2] at q8
        have hn : ¬ A.2 = true := fun e => by rw [e] at q8; exact absurd q8 (by decide)
        refine And.intro (fun _ => ?_) (fun q7 => absurd q7 (by decide))
        refine hP _ _ _ _ (And.intro (fun q7 => ?_) (fun q7 => ?_))
        · have q6 := (lg_cmp_ge _ _).mp q7
          rw [h1, zL_le hA zz] at q6
          exact at72 σ _ mS.rf (by rw [h1, ← ho, if_neg (by rintro (e | e); exact hn e; omega)])
        · have q6 : ¬ A.1 ≤ z := fun e => q7 ((lg_cmp_ge _ _).mpr (by rw [h1, zL_le hA zz]; exact e))
          exact at69 σ _ mS.rf (by rw [← ho, if_pos (Or.inr (by omega))])
  refine hP _ _ _ _ ?_
  by_cases hk3 : k < 3
  · refine And.intro (fun q9 => absurd (show nI 3 ≤ nI k from q9) (nI_ge (by omega) (by omega))) (fun _ => And.intro (fun q9 => ?_) (fun q9 => ?_))
    · have q8 : ¬ z = 1 := fun e => q9 ((lg_cmp_eq _ _).mpr (by rw [e]; rfl))
      exact at11 false (decide_eq_false (fun e => q8 e.2)).symm
    · have q8 : z = 1 := (zL_eq zz z1).mp ((lg_cmp_eq _ _).mp q9)
      exact at11 true (decide_eq_true ⟨hk3, q8⟩).symm
  · refine And.intro (fun _ => ?_) (fun q9 => absurd (show nI 3 ≤ nI k from nI_le (by omega) (by omega)) q9)
    exact at11 false (decide_eq_false (fun e => hk3 e.1)).symm
end QN_
